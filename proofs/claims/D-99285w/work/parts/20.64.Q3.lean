set_option maxRecDepth 100000
/-! LAYER 2: the country that stands, the state; takes, well, turns of both -/
/-- the codes that stand of law k -/
def cdS (s : MS) (k : Int) (cs : List Int) : Prop := (0 ≤ s 41 (3 + k) ∧ s 42 (3 + k) = s 41 (3 + k) + cs.length ∧ s 42 (3 + k) ≤ 1600) ∧ ∀ (i : Nat) (x : Int), cs[i]? = some x → s 43 (1600 + (s 41 (3 + k) + i)) = x
/-- cells of the country that stands -/
def dnN (N y : Int) : Prop := dyn y ∧ y < N
theorem dnN_dyn {N : Int} : ∀ y, dnN N y → dyn y := fun _ h => h.1
def wdO (w : List Int) : Prop := w.length ≤ 6 ∧ ∀ y ∈ w, 97 ≤ y ∧ y ≤ 122
def ssy (τ : XS) (s : MS) (i : Nat) (x : Int) (w : List Int) : Prop := (dyn x ∧ τ x (-1) = 9) ∧ strX τ (τ x 0) w ∧ s 37 (16 + i) = nmV w ∧ wdO w
def svb (τ : XS) (s : MS) (i : Nat) (x : Int) (w : List Int) : Prop := (dyn x ∧ τ x (-1) = 10) ∧ strX τ (τ x 0) w ∧ (s 37 (24 + i) = nmV w ∧ wdO w) ∧ (τ x 1 = s 39 (14 + 2 * i) ∧ 0 ≤ τ x 1 ∧ τ x 1 ≤ 9) ∧ (τ x 2 = s 39 (15 + 2 * i) ∧ 0 ≤ τ x 2 ∧ τ x 2 ≤ 9)
/-- the country that stands, of both -/
def SCR (τ : XS) (s : MS) (N c : Int) (es fs : List Int) (ws vs : List (List Int)) : Prop :=
  ((dnN N c ∧ τ c (-1) = 2) ∧ lstX τ (dnN N) (τ c 4) es ∧ lstX τ (dnN N) (τ c 5) fs) ∧
  ((allOk (ssy τ s) es ws ∧ ws.length ≤ 6 ∧ s 36 2 = ws.length) ∧ allOk (svb τ s) fs vs ∧ vs.length ≤ 7 ∧ s 36 3 = vs.length) ∧
  ((τ c 1 = s 35 2 ∧ 0 ≤ s 35 2 ∧ s 35 2 ≤ 99) ∧ (τ c 3 = s 35 3 ∧ 0 ≤ s 35 3 ∧ s 35 3 ≤ 100) ∧ (0 ≤ τ c 0 ∧ τ c 0 ≤ 80) ∧ ((s 46 0 = 0 ∧ τ c 0 = 0 ∧ ws = [] ∧ vs = []) ∨ (s 46 0 = 1 ∧ 1 ≤ τ c 0))) ∧
  (((τ c 6 = -1 ∧ s 41 3 = -1) ∨ ∃ cs, XT τ (dnN N) false 15 (τ c 6) cs ∧ cdS s 0 cs) ∧ ((τ c 7 = -1 ∧ s 41 4 = -1) ∨ ∃ cs, XV τ (dnN N) false 21 (τ c 7) cs ∧ cdS s 1 cs) ∧ ((τ c 8 = -1 ∧ s 41 5 = -1) ∨ ∃ cs, XV τ (dnN N) false 21 (τ c 8) cs ∧ cdS s 2 cs)) ∧ N ≤ τ (-1) 0
/-- what of the reference makes the country that stands -/
def stn (s s' : MS) : Prop := (∀ i : Int, 2 ≤ i → s' 35 i = s 35 i ∧ s' 36 i = s 36 i) ∧ (∀ i : Int, 16 ≤ i → s' 37 i = s 37 i) ∧ (∀ i : Int, 14 ≤ i → s' 39 i = s 39 i) ∧ (∀ i : Int, 3 ≤ i → s' 41 i = s 41 i ∧ s' 42 i = s 42 i) ∧ (∀ i : Int, 1600 ≤ i → s' 43 i = s 43 i) ∧ s' 46 0 = s 46 0
theorem stn.of {s s' : MS} {ks : List Nat} (h : only ks s s') (hk : ∀ k ∈ ([35, 36, 37, 39, 41, 42, 43, 46] : List Nat), k ∉ ks) : stn s s' := by
  have e := fun k (hm : k ∈ ([35, 36, 37, 39, 41, 42, 43, 46] : List Nat)) => h k (hk k hm)
  exact ⟨fun i _ => ⟨by rw [e 35 (by decide)], by rw [e 36 (by decide)]⟩, fun i _ => by rw [e 37 (by decide)], fun i _ => by rw [e 39 (by decide)], fun i _ => ⟨by rw [e 41 (by decide)], by rw [e 42 (by decide)]⟩, fun i _ => by rw [e 43 (by decide)], by rw [e 46 (by decide)]⟩
theorem stk.stn {s s' : MS} (h : stk s s') : stn s s' := ⟨h.2.1, h.2.2.1, h.2.2.2.1, h.2.2.2.2.1, h.2.2.2.2.2, by rw [h.1 46 (by decide)]⟩
theorem stn.tr {s s1 s2 : MS} (h : stn s s1) (h2 : stn s1 s2) : stn s s2 :=
  ⟨fun i hi => ⟨((h2.1 i hi).1).trans (h.1 i hi).1, ((h2.1 i hi).2).trans (h.1 i hi).2⟩, fun i hi => (h2.2.1 i hi).trans (h.2.1 i hi), fun i hi => (h2.2.2.1 i hi).trans (h.2.2.1 i hi), fun i hi => ⟨((h2.2.2.2.1 i hi).1).trans (h.2.2.2.1 i hi).1, ((h2.2.2.2.1 i hi).2).trans (h.2.2.2.1 i hi).2⟩, fun i hi => (h2.2.2.2.2.1 i hi).trans (h.2.2.2.2.1 i hi), h2.2.2.2.2.2.trans h.2.2.2.2.2⟩
theorem stn.rf {s : MS} : stn s s := ⟨fun _ _ => ⟨rfl, rfl⟩, fun _ _ => rfl, fun _ _ => rfl, fun _ _ => ⟨rfl, rfl⟩, fun _ _ => rfl, rfl⟩
section
variable {τ τ' : XS} {s s' : MS} {N c : Int} {es fs : List Int} {ws vs : List (List Int)}
theorem cdS.kept {k : Int} {cs : List Int} (h : cdS s k cs) (hk : 0 ≤ k ∧ k < 3) (hs : stn s s') : cdS s' k cs := by
  unfold cdS
  have e := hs.2.2.2.1 (3 + k) (by omega)
  rw [e.1, e.2]
  refine ⟨h.1, fun i x hx => ?_⟩
  rw [hs.2.2.2.2.1 _ (by have := h.1.1; omega)]
  exact h.2 i x hx
theorem strX.kp (ha : al τ) (hk : kps τ τ') {x : Int} {w : List Int} (h : strX τ x w) : strX τ' x w :=
  h.kept (hk.2 _ h.1.1 (tag_lt ha h.1.2 (by decide))) (hk.2 _ h.2.2.1.1 (tag_lt ha h.2.2.1.2 (by decide)))
theorem SCR.kp (h : SCR τ s N c es fs ws vs) (ha : al τ) (hk : kps τ τ') (hs : stn s s') : SCR τ' s' N c es fs ws vs := by
  obtain ⟨⟨⟨c0, ct⟩, l1, l2⟩, ⟨⟨a1, a2, a3⟩, b1, b2, b3⟩, ⟨d1, d2, d3, d4⟩, ⟨e1, e2, e3⟩, f⟩ := h
  have kd : ∀ y, dnN N y → τ' y = τ y := fun y hy => hk.2 y (dyn_fre hy.1) (by have := hy.2; omega)
  have ec := kd c c0
  have lt : ∀ y, dyn y → ∀ t, τ y (-1) = t → t ≠ 0 → τ' y = τ y := fun y hy t ht h0 => hk.2 y (dyn_fre hy) (tag_lt ha ht h0)
  unfold SCR
  rw [ec]
  refine ⟨⟨⟨c0, ct⟩, l1.kept kd, l2.kept kd⟩, ⟨⟨⟨a1.1, fun i x w q1 q2 => ?_⟩, a2, by rw [(hs.1 2 (by decide)).2]; exact a3⟩, ⟨b1.1, fun i x w q1 q2 => ?_⟩, b2, by rw [(hs.1 3 (by decide)).2]; exact b3⟩, ⟨by rw [(hs.1 2 (by decide)).1]; exact d1, by rw [(hs.1 3 (by decide)).1]; exact d2, d3, by rw [hs.2.2.2.2.2]; exact d4⟩, ⟨?_, ?_, ?_⟩, by have := hk.1; omega⟩
  · obtain ⟨p1, p2, p3, p4⟩ := a1.2 i x w q1 q2
    have ex := lt x p1.1 9 p1.2 (by decide)
    refine ⟨by rw [ex]; exact p1, by rw [ex]; exact p2.kp ha hk, ?_, p4⟩
    rw [hs.2.1 _ (by omega)]; exact p3
  · obtain ⟨p1, p2, ⟨p3, p3'⟩, p4, p5⟩ := b1.2 i x w q1 q2
    have ex := lt x p1.1 10 p1.2 (by decide)
    refine ⟨by rw [ex]; exact p1, by rw [ex]; exact p2.kp ha hk, ⟨?_, p3'⟩, ?_, ?_⟩
    · rw [hs.2.1 _ (by omega)]; exact p3
    · rw [ex, hs.2.2.1 _ (by omega)]; exact p4
    · rw [ex, hs.2.2.1 _ (by omega)]; exact p5
  · rw [(hs.2.2.2.1 3 (by decide)).1]
    rcases e1 with q | ⟨cs, q1, q2⟩
    · exact Or.inl q
    · exact Or.inr ⟨cs, XT_kept kd (fun _ h => h) _ _ _ q1, q2.kept (by decide) hs⟩
  · rw [(hs.2.2.2.1 4 (by decide)).1]
    rcases e2 with q | ⟨cs, q1, q2⟩
    · exact Or.inl q
    · exact Or.inr ⟨cs, XV_kept kd _ _ _ q1, q2.kept (by decide) hs⟩
  · rw [(hs.2.2.2.1 5 (by decide)).1]
    rcases e3 with q | ⟨cs, q1, q2⟩
    · exact Or.inl q
    · exact Or.inr ⟨cs, XV_kept kd _ _ _ q1, q2.kept (by decide) hs⟩
theorem SCR.cty (h : SCR τ s N (τ 0 0) es fs ws vs) : cty τ ws.length vs.length := by
  obtain ⟨⟨⟨c0, ct⟩, l1, l2⟩, ⟨⟨a1, a2, a3⟩, b1, b2, b3⟩, -⟩ := h
  refine ⟨⟨c0.1, ct⟩, ⟨l1.1.1.1, l1.1.2, ?_⟩, l2.1.1.1, l2.1.2, ?_⟩
  · rw [l1.2.2.1, a1.1]
  · rw [l2.2.2.1, b1.1]
end
/-- the state at a cell is what the row w tells: n sayings, v verbs -/
def stR (τ : XS) (c : Int) (w : Int → Int) (n v : Int) : Prop :=
  (τ c 0 = w 0 ∧ 0 ≤ w 0 ∧ w 0 ≤ 5000) ∧ ((0 ≤ τ c 1 ∧ τ c 1 < 128) ∧ (∀ o : Int, 0 ≤ o → o < 7 → v ≤ o → bit (τ c 1) o = false) ∧ ∀ o : Int, 0 ≤ o → o < v → w (1 + o) = b2i (bit (τ c 1) o)) ∧
  ∀ o : Int, 0 ≤ o → o < n → (τ (c + 1) o = w (8 + 10 * o) ∧ 0 ≤ w (8 + 10 * o) ∧ w (8 + 10 * o) ≤ 9) ∧ (τ (c + 2) o = w (8 + 10 * o + 1) ∧ 0 ≤ w (8 + 10 * o + 1) ∧ w (8 + 10 * o + 1) ≤ 9) ∧ (τ (c + 3) o = w (8 + 10 * o + 2) ∧ 0 ≤ w (8 + 10 * o + 2) ∧ w (8 + 10 * o + 2) ≤ 9) ∧ ∀ u : Int, 0 ≤ u → u < v → τ (c + 5 + 1 + o) u = w (8 + 10 * o + 3 + u) ∧ 0 ≤ w (8 + 10 * o + 3 + u) ∧ w (8 + 10 * o + 3 + u) ≤ 99
/-- what a law asks -/
def lpt (w vb : Int → Int) (a u k : Int) : Int := if k = 0 then w (8 + 10 * a + 2) else if k = 1 then vb (14 + 2 * u) else if k = 2 then vb (15 + 2 * u) else if k = 3 then w (8 + 10 * a + 3 + u) else w 0
section
variable {τ τ' : XS} {s s' : MS} {N c : Int} {es fs : List Int} {ws vs : List (List Int)} {n v a u : Int}
/-- the reference: bounds of what a law asks -/
def lbd (s : MS) (a u : Int) : Prop := (0 ≤ a ∧ a < 6) ∧ (0 ≤ u ∧ u < 7) ∧ (0 ≤ s 48 0 ∧ s 48 0 ≤ 5000) ∧ (0 ≤ s 48 (8 + 10 * a + 2) ∧ s 48 (8 + 10 * a + 2) ≤ 9) ∧ (0 ≤ s 48 (8 + 10 * a + 3 + u) ∧ s 48 (8 + 10 * a + 3 + u) ≤ 99) ∧ (0 ≤ s 39 (14 + 2 * u) ∧ s 39 (14 + 2 * u) ≤ 9) ∧ (0 ≤ s 39 (15 + 2 * u) ∧ s 39 (15 + 2 * u) ≤ 9)
theorem lpt_bd (h : lbd s a u) (k : Int) : 0 ≤ lpt (s 48) (s 39) a u k ∧ lpt (s 48) (s 39) a u k ≤ 5000 := by
  obtain ⟨h1, h2, h3, h4, h5, h6, h7⟩ := h
  unfold lpt
  split
  · omega
  · split
    · omega
    · split
      · omega
      · split <;> omega
theorem qPart_ev (h : lbd s a u) {s1 : MS} (e48 : s1 48 = s 48) (e39 : s1 39 = s 39) (e50 : s1 50 0 = u) {k : Int} (hk : alw false k) : m_qPartOf k a s1 = some (lpt (s 48) (s 39) a u k, s1) := by
  obtain ⟨h1, h2, h3, h4, h5, h6, h7⟩ := h
  have hk5 : 0 ≤ k ∧ k < 5 := by unfold alw at hk; rw [if_neg (by simp)] at hk; exact hk
  have ik : i32 k = k := i32_id (by omega) (by omega)
  unfold m_qPartOf
  rw [ik]
  by_cases c0 : k = 0
  · have e : lpt (s 48) (s 39) a u k = s 48 (8 + 10 * a + 2) := by unfold lpt; rw [if_pos c0]
    rw [e]
    have i2 : i32 (8 + 10 * a + 2) = 8 + 10 * a + 2 := i32_id (by omega) (by omega)
    have o2 : ok 219 (8 + 10 * a + 2) := by unfold ok; rw [i2]; omega
    refine st_t c0 (st_bind (z := (s1 48 (8 + 10 * a + 2), s1)) ?_ ?_)
    · unfold m_toneOf; rw [gd_t o2, i2]
    · rw [e48, i32_id (by omega) (by omega)]
  refine st_f c0 ?_
  by_cases c1 : k = 1
  · have e : lpt (s 48) (s 39) a u k = s 39 (14 + 2 * u) := by unfold lpt; rw [if_neg c0, if_pos c1]
    rw [e]
    have i2 : i32 (14 + 2 * u) = 14 + 2 * u := i32_id (by omega) (by omega)
    refine st_t c1 (st_gd ?_ ?_)
    · unfold ok; rw [e50, i2]; omega
    · rw [e50, i2, e39, i32_id (by omega) (by omega)]
  refine st_f c1 ?_
  by_cases c2 : k = 2
  · have e : lpt (s 48) (s 39) a u k = s 39 (15 + 2 * u) := by unfold lpt; rw [if_neg c0, if_neg c1, if_pos c2]
    rw [e]
    have i2 : i32 (15 + 2 * u) = 15 + 2 * u := i32_id (by omega) (by omega)
    refine st_t c2 (st_gd ?_ ?_)
    · unfold ok; rw [e50, i2]; omega
    · rw [e50, i2, e39, i32_id (by omega) (by omega)]
  refine st_f c2 ?_
  by_cases c3 : k = 3
  · have e : lpt (s 48) (s 39) a u k = s 48 (8 + 10 * a + 3 + u) := by unfold lpt; rw [if_neg c0, if_neg c1, if_neg c2, if_pos c3]
    rw [e]
    have i2 : i32 (8 + 10 * a + 3 + u) = 8 + 10 * a + 3 + u := i32_id (by omega) (by omega)
    have o2 : ok 219 (8 + 10 * a + 3 + u) := by unfold ok; rw [i2]; omega
    refine st_t c3 (st_bind (z := (s1 48 (8 + 10 * a + 3 + u), s1)) ?_ ?_)
    · unfold m_givenOf; rw [e50, gd_t o2, i2]
    · rw [e48, i32_id (by omega) (by omega)]
  refine st_f c3 ?_
  have c4 : k = 4 := by omega
  have e : lpt (s 48) (s 39) a u k = s 48 0 := by unfold lpt; rw [if_neg c0, if_neg c1, if_neg c2, if_neg c3]
  rw [e]
  refine st_t c4 (st_gd (by decide) ?_)
  rw [i32_0, e48, i32_id (by omega) (by omega)]
theorem codesTell_ev {of : Int → Int → Int} {wh x : Int} {cs : List Int} (hwh : 0 ≤ wh ∧ wh < 3) (hc : cdS s wh cs) (hb : lbd s a u) (hB : isB false (lpt (s 48) (s 39) a u) of cs x) : ∃ s', m_codesTell wh a u s = some (x, s') ∧ only [47, 50, 102, 103] s s' := by
  obtain ⟨s6, e6⟩ : ∃ s6, up (up (up s 47 0 0) 50 0 u) 103 0 0 = s6 := ⟨_, rfl⟩
  have o6 : only [47, 50, 103] s s6 := by rw [← e6]; exact ((only.up (by decide)).tr (only.up (by decide))).tr (only.up (by decide))
  have p6 : plR s6 [] := ⟨by rw [← e6, up_s]; rfl, fun i x h => by cases h⟩
  have f50 : s6 50 0 = u := by rw [← e6, up_row (by decide), up_s]
  have i3 : i32 (3 + wh) = 3 + wh := i32_id (by omega) (by omega)
  have ok3 : ok 6 (3 + wh) := by unfold ok; rw [i3]; omega
  obtain ⟨⟨c1, c2, c3⟩, c4⟩ := hc
  have fu := FU_ge
  obtain ⟨s', r1, r2, r3⟩ := tell_go (of := of) (pt := lpt (s 48) (s 39) a u) (fun (s36 : MS) => gd (ok 1700 0) <| some ((s36 102 (i32 0)), s36)) (a := a) hwh s6 (fr := s 41 (3 + wh)) (to := s 42 (3 + wh)) ⟨by rw [o6 42 (by decide)], c1, c3⟩ (fun s1 h k hk => qPart_ev hb (by rw [h 48 (by decide), o6 48 (by decide)]) (by rw [h 39 (by decide), o6 39 (by decide)]) (by rw [h 50 (by decide)]; exact f50) hk) cs [] [x] s6 (s 41 (3 + wh)) FU (Int.le_refl _) (by omega) (fun j y hj => by rw [o6 43 (by decide), Int.add_assoc]; exact c4 j y hj) only.rf p6 (hB [] (fun y hy => by cases hy)) (fun y hy => by cases hy) (by simp; omega) (by omega)
  refine ⟨s', ?_, (o6.mono (by intro k; simp; omega)).tr (r2.mono (by intro k; simp; omega))⟩
  unfold m_codesTell
  refine st_bnd (st_bnd (st_be e6 (st_gd ok3 (st_bnd ?_))))
  rw [i3, o6 41 (by decide)]
  refine r1.trans (st_gd (by decide) ?_)
  have t := r3.top
  rw [i32_0]
  rw [show (([] : List Int).length : Int) = 0 from rfl] at t
  rw [t]
/-- of both: what is asked of a saying and a verb -/
theorem SCR.lbd (h : SCR τ s N (τ 0 0) es fs ws vs) (hs : stR τ c (s 48) ws.length vs.length) (ha : 0 ≤ a ∧ a < ws.length) (hu : 0 ≤ u ∧ u < vs.length) : lbd s a u := by
  obtain ⟨-, ⟨⟨a1, a2, a3⟩, b1, b2, b3⟩, -⟩ := h
  have q := hs.2.2 a ha.1 ha.2
  have q2 := q.2.2.2 u hu.1 hu.2
  have hl : u.toNat < fs.length := by rw [b1.1]; omega
  have hl2 : u.toNat < vs.length := by omega
  obtain ⟨-, -, -, g1, g2⟩ := b1.2 u.toNat _ _ (List.getElem?_eq_getElem hl) (List.getElem?_eq_getElem hl2)
  rw [show ((u.toNat : Nat) : Int) = u by omega] at g1 g2
  exact ⟨by omega, by omega, by have := hs.1; omega, by have := q.2.2.1; omega, by omega, by omega, by omega⟩
/-- the system asks: a saying, a verb -/
theorem asks_ev (h : SCR τ s N (τ 0 0) es fs ws vs) (hc : isSt c) (hs : stR τ c (s 48) ws.length vs.length) (ha : 0 ≤ a ∧ a < ws.length) (hu : 0 ≤ u ∧ u < vs.length) :
    ∃ τ', x7_asks c a u τ = some (0, τ') ∧ onx [10] τ τ' ∧ ∀ k : Int, alw false k → τ' 10 k = lpt (s 48) (s 39) a u k := by
  have hlb := h.lbd hs ha hu
  obtain ⟨q1, q2, q3, q4, q5, q6, q7⟩ := hlb
  have hS := hs.2.2 a ha.1 ha.2
  have hS4 := hS.2.2.2 u hu.1 hu.2
  obtain ⟨⟨⟨c0, ct⟩, l1, l2⟩, ⟨⟨a1, a2, a3⟩, b1, b2, b3⟩, -⟩ := id h
  have hl : u.toNat < fs.length := by rw [b1.1]; omega
  have hl2 : u.toNat < vs.length := by omega
  obtain ⟨x, ex⟩ : ∃ x, fs[u.toNat] = x := ⟨_, rfl⟩
  have gx : fs[u.toNat]? = some x := by rw [List.getElem?_eq_getElem hl, ex]
  obtain ⟨⟨x0, xt⟩, -, -, g1, g2⟩ := b1.2 u.toNat _ _ gx (List.getElem?_eq_getElem hl2)
  have eu : ((u.toNat : Nat) : Int) = u := by omega
  rw [eu] at g1 g2
  have ia : i32 a = a := i32_id (by omega) (by omega)
  have iu : i32 u = u := i32_id (by omega) (by omega)
  have oa : ok 6 a := by unfold ok; rw [ia]; omega
  have ou : ok 7 u := by unfold ok; rw [iu]; omega
  have hst := isSt_b hc
  have i1 : i32 1 = 1 := by decide
  have i2 : i32 2 = 2 := by decide
  have i3 : i32 3 = 3 := by decide
  have i4 : i32 4 = 4 := by decide
  -- the states
  obtain ⟨τ1, e1⟩ : ∃ τ1, ux τ 10 0 (s 48 (8 + 10 * a + 2)) = τ1 := ⟨_, rfl⟩
  obtain ⟨τ2, e2⟩ : ∃ τ2, ux τ1 10 1 (s 39 (14 + 2 * u)) = τ2 := ⟨_, rfl⟩
  obtain ⟨τ3, e3⟩ : ∃ τ3, ux τ2 10 2 (s 39 (15 + 2 * u)) = τ3 := ⟨_, rfl⟩
  obtain ⟨τ4, e4⟩ : ∃ τ4, ux τ3 10 3 (s 48 (8 + 10 * a + 3 + u)) = τ4 := ⟨_, rfl⟩
  obtain ⟨τ5, e5⟩ : ∃ τ5, ux τ4 10 4 (s 48 0) = τ5 := ⟨_, rfl⟩
  have f1 : ∀ y, y ≠ 10 → τ1 y = τ y := fun y h => by rw [← e1]; exact ux_cell h
  have f2 : ∀ y, y ≠ 10 → τ2 y = τ y := fun y h => by rw [← e2, ux_cell h]; exact f1 y h
  have f3 : ∀ y, y ≠ 10 → τ3 y = τ y := fun y h => by rw [← e3, ux_cell h]; exact f2 y h
  have f4 : ∀ y, y ≠ 10 → τ4 y = τ y := fun y h => by rw [← e4, ux_cell h]; exact f3 y h
  have f5 : ∀ y, y ≠ 10 → τ5 y = τ y := fun y h => by rw [← e5, ux_cell h]; exact f4 y h
  have dn : ∀ y, dyn y → y ≠ 10 := fun y h => by rcases h with h | h <;> omega
  have z5 := l2.1.1.1
  have G : ∀ τx : XS, (∀ y, y ≠ 10 → τx y = τ y) → (¬ τx 0 0 = -1) ∧ tg true τx (τx 0 0) = 2 ∧ (¬ τx (τx 0 0) 5 = -1) ∧ tg true τx (τx (τx 0 0) 5) = 21 ∧ j2_get true (τx (τx 0 0) 5) u τx = some (x, τx) ∧ tg true τx x = 10 := fun τx fx => by
    rw [fx 0 (by decide), fx _ (dn _ c0.1)]
    refine ⟨dyn_ne c0.1, tgd c0.1 (by rw [fx _ (dn _ c0.1)]; exact ct), dyn_ne z5, tgd z5 (by rw [fx _ (dn _ z5)]; exact l2.1.2), ?_, tgd x0 (by rw [fx _ (dn _ x0)]; exact xt)⟩
    have := get_ev dnN_dyn (l2.kept (τ' := τx) (fun y hy => fx y (dn y hy.1))) gx
    rw [eu] at this
    exact this
  obtain ⟨p1, p2, p3, p4, p5, p6⟩ := G τ1 f1
  obtain ⟨r1, r2, r3, r4, r5, r6⟩ := G τ2 f2
  refine ⟨τ5, ?_, fun y hy => f5 y (by simpa using hy), fun k hk => ?_⟩
  · unfold x7_asks
    refine st_gd hc (st_gd oa (st_gd (by decide) (st_be (e' := τ1) ?_ (st_gd p1 (st_gd p2 (st_gd p3 (st_gd p4 (st_bind p5 (st_gd p6 (st_gd p6 (st_gd (by decide) (st_be (e' := τ2) ?_ (st_gd r1 (st_gd r2 (st_gd r3 (st_gd r4 (st_bind r5 (st_gd r6 (st_gd r6 (st_gd (by decide) (st_be (e' := τ3) ?_ (st_gd oa (st_gd ou (st_gd (by decide) (st_be (e' := τ4) ?_ (st_gd (by decide) (st_be (e' := τ5) ?_ rfl)))))))))))))))))))))))))))
    · rw [ia, i32_0, hS.2.2.1.1, i32_id (by omega) (by omega)]; exact e1
    · dsimp only
      rw [i1, f1 x (dn x x0), g1.1, i32_id (by omega) (by omega)]; exact e2
    · dsimp only
      rw [i2, f2 x (dn x x0), g2.1, i32_id (by omega) (by omega)]; exact e3
    · rw [i3, ia, iu, f3 _ (by omega), hS4.1, i32_id (by omega) (by omega)]; exact e4
    · rw [i4, f4 _ (by omega), hs.1.1, i32_id (by omega) (by omega)]; exact e5
  · have hk5 : 0 ≤ k ∧ k < 5 := by unfold alw at hk; rw [if_neg (by simp)] at hk; exact hk
    unfold lpt
    by_cases k4 : k = 4
    · rw [if_neg (by omega), if_neg (by omega), if_neg (by omega), if_neg (by omega), k4, ← e5, ux_s]
    rw [← e5, ux_i _ _ _ _ k4]
    by_cases k3 : k = 3
    · rw [if_neg (by omega), if_neg (by omega), if_neg (by omega), if_pos k3, k3, ← e4, ux_s]
    rw [← e4, ux_i _ _ _ _ k3]
    by_cases k2 : k = 2
    · rw [if_neg (by omega), if_neg (by omega), if_pos k2, k2, ← e3, ux_s]
    rw [← e3, ux_i _ _ _ _ k2]
    by_cases k1 : k = 1
    · rw [if_neg (by omega), if_pos k1, k1, ← e2, ux_s]
    rw [← e2, ux_i _ _ _ _ k1]
    have k0 : k = 0 := by omega
    rw [if_pos k0, k0, ← e1, ux_s]
end
