set_option maxRecDepth 100000
/-! LAYER 2: one verb is given, by both -/
/-- only the state at c and the moment have changed -/
def onG (c : Int) (τ τ' : XS) : Prop := ∀ y, y ≠ 10 → ¬ (c ≤ y ∧ y ≤ c + 62) → τ' y = τ y
/-- the state's rows are what is kept -/
def kpR (τ : XS) (c : Int) (w : Int → Int) : Prop := (τ c 2 = w 68 ∧ 0 ≤ w 68 ∧ w 68 ≤ 50) ∧ ∀ k i : Int, 0 ≤ k → k < w 68 → 0 ≤ i → i < 3 → τ (τ (c + 12) k) i = w (69 + 3 * k + i)
section
variable {τ τ' : XS} {s s' : MS} {N c : Int} {es fs : List Int} {ws vs : List (List Int)} {a u : Int}
theorem onG.rf : onG c τ τ := fun _ _ _ => rfl
theorem onG.tr {τ2 : XS} (h : onG c τ τ') (h2 : onG c τ' τ2) : onG c τ τ2 := fun y h3 h4 => (h2 y h3 h4).trans (h y h3 h4)
theorem onG.ux (h : onG c τ τ') {y i x : Int} (hy : c ≤ y ∧ y ≤ c + 62) : onG c τ (ux τ' y i x) := fun w h1 h2 => by rw [ux_cell (by omega)]; exact h w h1 h2
theorem onG.kps (h : onG c τ τ') (hc : isSt c) : kps τ τ' := by
  have hb := isSt_b hc
  exact ⟨by rw [h (-1) (by omega) (by omega)]; exact Int.le_refl _, fun y hy _ => h y (by unfold fre at hy; omega) (by unfold fre at hy; omega)⟩
theorem onG.alk (h : onG c τ τ') (hc : isSt c) (ha : al τ) : al τ' := by
  have hb := isSt_b hc
  have eN := h (-1) (by omega) (by omega)
  refine ⟨by rw [eN]; exact ha.1, by rw [eN]; exact ha.2.1, fun y hy => ?_⟩
  rw [eN] at hy
  have := ha.1
  rw [h y (by omega) (by omega)]
  exact ha.2.2 y hy
theorem onG.scr (h : onG c τ τ') (hc : isSt c) (ha : al τ) (hs : SCR τ s N (τ 0 0) es fs ws vs) (hm : stn s s') : SCR τ' s' N (τ' 0 0) es fs ws vs := by
  have hb := isSt_b hc
  rw [h 0 (by omega) (by omega)]
  exact hs.kp ha (h.kps hc) hm
theorem stR.chg {w w' : Int → Int} {n v : Int} (h : stR τ c w n v) (e0 : ∀ i : Int, i ≠ 2 → τ' c i = τ c i) (e1 : τ' (c + 1) = τ (c + 1)) (e2 : τ' (c + 2) = τ (c + 2)) (hv : v ≤ 7) (w0 : ∀ j : Int, j < 8 → w' j = w j) (wc : ∀ o : Int, 0 ≤ o → o < n → w' (8 + 10 * o) = w (8 + 10 * o) ∧ w' (8 + 10 * o + 1) = w (8 + 10 * o + 1)) (ht : ∀ o : Int, 0 ≤ o → o < n → τ' (c + 3) o = w' (8 + 10 * o + 2) ∧ 0 ≤ w' (8 + 10 * o + 2) ∧ w' (8 + 10 * o + 2) ≤ 9) (hg : ∀ o u : Int, 0 ≤ o → o < n → 0 ≤ u → u < v → τ' (c + 5 + 1 + o) u = w' (8 + 10 * o + 3 + u) ∧ 0 ≤ w' (8 + 10 * o + 3 + u) ∧ w' (8 + 10 * o + 3 + u) ≤ 99) : stR τ' c w' n v := by
  unfold stR
  rw [e0 0 (by decide), e0 1 (by decide), e1, e2, w0 0 (by decide)]
  refine ⟨h.1, ⟨h.2.1.1, h.2.1.2.1, fun o h0 h1 => by rw [w0 _ (by omega)]; exact h.2.1.2.2 o h0 h1⟩, fun o h0 h1 => ?_⟩
  obtain ⟨q1, q2⟩ := wc o h0 h1
  rw [q1, q2]
  exact ⟨(h.2.2 o h0 h1).1, (h.2.2 o h0 h1).2.1, ht o h0 h1, fun u u0 u1 => hg o u h0 h1 u0 u1⟩
def gvk : List Nat := [47, 48, 50, 61, 62, 102, 103]
theorem gives_ok (h : RLc τ s N c es fs ws vs) (hr : rwR τ c) (hk : 0 ≤ τ c 2 ∧ τ c 2 ≤ 50) (hth : s 60 0 = 0 ∨ s 60 0 = 1) (hkp : s 60 0 = 0 → kpR τ c (s 48)) (ha : 0 ≤ a ∧ a < ws.length) (hu : 0 ≤ u ∧ u < vs.length) :
    ∃ τ' s', x7_gives c a u τ = some (0, τ') ∧ m_gives a u s = some (0, s') ∧ (onG c τ τ' ∧ only gvk s s') ∧ RLc τ' s' N c es fs ws vs ∧ (rwR τ' c ∧ 0 ≤ τ' c 2 ∧ τ' c 2 ≤ 50) ∧ (s 60 0 = 0 → kpR τ' c (s' 48)) ∧ ((τ' (c + 4) a = u ∧ ∀ j, j ≠ a → τ' (c + 4) j = τ (c + 4) j) ∧ s' 62 a = u ∧ ∀ j, j ≠ a → s' 62 j = s 62 j) ∧ s' 61 0 = s 61 0 + 1 ∧ ((∀ i : Int, i ≠ 2 → τ' c i = τ c i) ∧ τ' (c + 1) = τ (c + 1) ∧ τ' (c + 2) = τ (c + 2)) ∧ (s 60 0 = 1 → ∀ j : Int, 68 ≤ j → s' 48 j = s 48 j) := by
  obtain ⟨hal, hS, hc, hst⟩ := id h
  have hb := isSt_b hc
  obtain ⟨-, ⟨⟨-, hn, -⟩, -, hv, -⟩, -⟩ := id hS
  have hg := (hst.2.2 a ha.1 ha.2).2.2.2 u hu.1 hu.2
  have ia : i32 a = a := i32_id (by omega) (by omega)
  have iu : i32 u = u := i32_id (by omega) (by omega)
  have oka : ok 6 a := by unfold ok; rw [ia]; omega
  have oku : ok 7 u := by unfold ok; rw [iu]; omega
  obtain ⟨p, ep⟩ : ∃ p, 8 + 10 * a + 3 + u = p := ⟨_, rfl⟩
  rw [ep] at hg
  have hp : 11 ≤ p ∧ p < 68 := by omega
  have ip : i32 p = p := i32_id (by omega) (by omega)
  have okp : ok 219 p := by unfold ok; rw [ip]; omega
  obtain ⟨g, eg⟩ : ∃ g, s 48 p = g := ⟨_, rfl⟩
  rw [eg] at hg
  obtain ⟨g', eg'⟩ : ∃ g', (if g < 99 then g + 1 else g) = g' := ⟨_, rfl⟩
  have hg' : 0 ≤ g' ∧ g' ≤ 99 := by rw [← eg']; split <;> omega
  -- the system: given
  obtain ⟨t1, e1⟩ : ∃ t1, ux τ (c + 4) a u = t1 := ⟨_, rfl⟩
  have f1 : t1 (c + 5 + 1 + a) = τ (c + 5 + 1 + a) := by rw [← e1]; exact ux_cell (by omega)
  have mn : j12_min true 99 (t1 (c + 5 + 1 + a) u + 1) t1 = some (g', t1) := by
    unfold j12_min
    rw [f1, hg.1, i32_id (by omega) (by omega), show i32 99 = 99 by decide, ← eg']
    by_cases q : g + 1 < 99
    · rw [if_pos q, if_pos (by omega)]
    · rw [if_neg q]
      by_cases q2 : g < 99
      · rw [if_pos q2, show g = 98 by omega]; rfl
      · rw [if_neg q2, show g = 99 by omega]
  obtain ⟨t2, e2⟩ : ∃ t2, ux t1 (c + 5 + 1 + a) u g' = t2 := ⟨_, rfl⟩
  have G2 : onG c τ t2 := by rw [← e2, ← e1]; exact (onG.rf.ux (by omega)).ux (by omega)
  have k2 : ∀ y, y ≠ c + 4 → y ≠ c + 5 + 1 + a → t2 y = τ y := fun y h1 h2 => by rw [← e2, ux_cell h2, ← e1, ux_cell h1]
  have c2 : t2 c = τ c := k2 c (by omega) (by omega)
  have r2 : t2 (c + 12) = τ (c + 12) := k2 _ (by omega) (by omega)
  obtain ⟨t3, x1, x2, x3, x4, x5, x6⟩ := tells_x hc (hr.kept r2) (by rw [c2]; exact hk) a u
  have G3 : onG c τ t3 := G2.tr (fun y h1 h2 => x2 y (by omega) (by omega))
  have k3 : ∀ y, y ≠ c → ¬ (c + 12 ≤ y ∧ y ≤ c + 62) → y ≠ c + 4 → y ≠ c + 5 + 1 + a → t3 y = τ y := fun y h1 h2 h3 h4 => by rw [x2 y h1 h2, k2 y h3 h4]
  have c3 : ∀ i : Int, i ≠ 2 → t3 c i = τ c i := fun i hi => by rw [x3 i hi, c2]
  have gv3 : ∀ j : Int, t3 (c + 5 + 1 + a) j = if j = u then g' else τ (c + 5 + 1 + a) j := fun j => by
    rw [x2 _ (by omega) (by omega), ← e2]
    by_cases q : j = u
    · rw [if_pos q, q, ux_s]
    · rw [if_neg q, ux_i _ _ _ _ q, f1]
  -- the reference: given
  obtain ⟨s1, d1⟩ : ∃ s1, up s 62 a u = s1 := ⟨_, rfl⟩
  have s148 : s1 48 = s 48 := by rw [← d1]; exact up_row (by decide)
  obtain ⟨s2, d2, d2o, d2v⟩ : ∃ s2, (∀ (K : MS → Option (Int × MS)), (if i32 99 ≤ i32 (s1 48 (i32 p)) then K s1 else gd (ok 219 p) <| gd (ok 219 p) <| bnd (up s1 48 (i32 p) ((s1 48 (i32 p)) + 1)) K) = K s2) ∧ only [48] s1 s2 ∧ ∀ j : Int, s2 48 j = if j = p then g' else s 48 j := by
    by_cases q : g < 99
    · rw [if_pos q] at eg'
      refine ⟨up s1 48 p (g + 1), fun K => ?_, only.up (by decide), fun j => ?_⟩
      · refine st_f ?_ (st_gd okp (st_gd okp (st_bnd ?_)))
        · rw [ip, s148, eg, show i32 99 = 99 by decide, i32_id (by omega) (by omega)]; omega
        · rw [ip, s148, eg]
      · by_cases ej : j = p
        · rw [if_pos ej, ej, up_s, eg']
        · rw [if_neg ej, up_i _ _ _ _ ej, s148]
    · rw [if_neg q] at eg'
      refine ⟨s1, fun K => ?_, only.rf, fun j => ?_⟩
      · refine st_t ?_ rfl
        rw [ip, s148, eg, show i32 99 = 99 by decide, i32_id (by omega) (by omega)]; omega
      · rw [s148]
        by_cases ej : j = p
        · rw [if_pos ej, ej, eg, eg']
        · rw [if_neg ej]
  have o2 : only [48, 62] s s2 := (show only [48, 62] s s1 by rw [← d1]; exact only.up (by decide)).tr (d2o.mono (by intro k; simp; omega))
  have st3 : stR t3 c (s2 48) ws.length vs.length := by
    refine hst.chg c3 (k3 _ (by omega) (by omega) (by omega) (by omega)) (k3 _ (by omega) (by omega) (by omega) (by omega)) (by omega) (fun j hj => by rw [d2v, if_neg (by omega)]) (fun o h0 h1 => ⟨by rw [d2v, if_neg (by omega)], by rw [d2v, if_neg (by omega)]⟩) (fun o h0 h1 => ?_) (fun o w h0 h1 w0 w1 => ?_)
    · rw [d2v, if_neg (by omega), k3 (c + 3) (by omega) (by omega) (by omega) (by omega)]
      exact (hst.2.2 o h0 h1).2.2.1
    · by_cases eo : o = a
      · rw [eo, gv3]
        by_cases ew : w = u
        · rw [if_pos ew, ew, ep, d2v, if_pos rfl]; exact ⟨rfl, hg'⟩
        · rw [if_neg ew, d2v, if_neg (by omega)]
          exact (hst.2.2 a ha.1 ha.2).2.2.2 w w0 w1
      · rw [d2v, if_neg (by omega), k3 (c + 5 + 1 + o) (by omega) (by omega) (by omega) (by omega)]
        exact (hst.2.2 o h0 h1).2.2.2 w w0 w1
  have al3 := G3.alk hc hal
  have S3 := G3.scr hc hal hS (stn.of o2 (by decide))
  obtain ⟨x, t4, s3, y1, y2, y3, ⟨y4, y5⟩, y6, y7⟩ := turn_ok S3 hc st3 ha hu
  have G4 : onG c τ t4 := G3.tr (fun y h1 h2 => y3 y (by simp; omega))
  have k4 : ∀ y, y ≠ 10 → y ≠ c + 3 → t4 y = t3 y := fun y h1 h2 => y3 y (by simp; omega)
  have c4 : t4 c = t3 c := k4 c (by omega) (by omega)
  have r4 : t4 (c + 12) = t3 (c + 12) := k4 _ (by omega) (by omega)
  -- the reference: the tone
  have i2 : i32 (8 + 10 * a + 2) = 8 + 10 * a + 2 := i32_id (by omega) (by omega)
  have ok2 : ok 219 (8 + 10 * a + 2) := by unfold ok; rw [i2]; omega
  obtain ⟨s4, d4⟩ : ∃ s4, up s3 48 (8 + 10 * a + 2) x = s4 := ⟨_, rfl⟩
  obtain ⟨s5, d5⟩ : ∃ s5, up s4 61 0 (s4 61 0 + 1) = s5 := ⟨_, rfl⟩
  have s448 : ∀ j : Int, s5 48 j = if j = 8 + 10 * a + 2 then x else s2 48 j := fun j => by
    rw [← d5, up_row (by decide), ← d4]
    by_cases q : j = 8 + 10 * a + 2
    · rw [if_pos q, q, up_s]
    · rw [if_neg q, up_i _ _ _ _ q, y6 48 (by decide)]
  have o5 : only gvk s s5 := (((o2.mono (by unfold gvk; intro k; simp; omega)).tr (y6.mono (by unfold gvk; intro k; simp; omega))).tr (show only gvk s3 s4 by rw [← d4]; exact only.up (by decide))).tr (by rw [← d5]; exact only.up (by decide))
  have s60 : s5 60 0 = s 60 0 := by rw [o5 60 (by decide)]
  have s61 : s5 61 0 = s 61 0 + 1 := by rw [← d5, up_s, ← d4, up_row (by decide), y6 61 (by decide), o2 61 (by decide)]
  have s62 : ∀ j, s5 62 j = s1 62 j := fun j => by rw [← d5, up_row (by decide), ← d4, up_row (by decide), y6 62 (by decide), d2o 62 (by decide)]
  have st4 : ∀ w : Int → Int, (∀ j : Int, j < 68 → w j = s5 48 j) → stR t4 c w ws.length vs.length := fun w hw => by
    refine st3.chg (fun i _ => by rw [c4]) (k4 _ (by omega) (by omega)) (k4 _ (by omega) (by omega)) (by omega) (fun j hj => by rw [hw j (by omega), s448, if_neg (by omega)]) (fun o h0 h1 => ⟨by rw [hw _ (by omega), s448, if_neg (by omega)], by rw [hw _ (by omega), s448, if_neg (by omega)]⟩) (fun o h0 h1 => ?_) (fun o u' h0 h1 w0 w1 => ?_)
    · rw [hw _ (by omega), s448]
      by_cases eo : o = a
      · rw [eo, if_pos rfl]; exact ⟨y4, y7⟩
      · rw [if_neg (by omega), y5 o eo]; exact (st3.2.2 o h0 h1).2.2.1
    · rw [hw _ (by omega), s448, if_neg (by omega), k4 _ (by omega) (by omega)]
      exact (st3.2.2 o h0 h1).2.2.2 u' w0 w1
  have xr : x7_gives c a u τ = some (0, t4) := by
    unfold x7_gives
    refine st_gd hc (st_gd oka (st_be (e' := t1) (by rw [ia]; exact e1) (st_gd oka (st_gd oka (st_gd oku (st_bind (z := (g', t1)) (by rw [ia, iu]; exact mn) (st_gd oku (st_be (e' := t2) (by dsimp only; rw [ia, iu]; exact e2) (st_bind x1 ?_)))))))))
    exact y1
  have mr : ∀ s6, m_isKept a u s5 = some (0, s6) → m_gives a u s = some (0, s6) := fun s6 hm => by
    unfold m_gives
    refine st_gd oka (st_be (e' := s1) (by rw [ia]; exact d1) (st_be ep (st_gd okp (st_bnd ?_))))
    refine (d2 (fun s9 => Option.bind (m_turnedOf a u s9) fun z10 =>
      gd (ok 219 ((8 + (10 * a)) + 2)) <|
      bnd (up z10.2 48 (i32 ((8 + (10 * a)) + 2)) z10.1) fun s12 =>
      bnd (up s12 61 0 ((s12 61 0) + 1)) fun s13 =>
      Option.bind (m_isKept a u s13) fun z14 =>
      some (0, z14.2))).trans ?_
    exact st_bind y2 (st_gd ok2 (st_be (e' := s4) (by dsimp only; rw [i2]; exact d4) (st_be d5 (st_bind hm rfl))))
  have gt4 : ∀ j : Int, t4 (c + 4) j = if j = a then u else τ (c + 4) j := fun j => by
    rw [k4 _ (by omega) (by omega), x2 _ (by omega) (by omega), ← e2, ux_cell (by omega), ← e1]
    by_cases q : j = a
    · rw [if_pos q, q, ux_s]
    · rw [if_neg q, ux_i _ _ _ _ q]
  have gs5 : ∀ j : Int, s5 62 j = if j = a then u else s 62 j := fun j => by
    rw [s62, ← d1]
    by_cases q : j = a
    · rw [if_pos q, q, up_s]
    · rw [if_neg q, up_i _ _ _ _ q]
  have R4 : rwR t4 c ∧ 0 ≤ t4 c 2 ∧ t4 c 2 ≤ 50 := by
    refine ⟨x4.kept r4, ?_⟩
    rw [c4]
    rw [c2] at x5
    rcases x5 with q | q <;> omega
  have al4 := G4.alk hc hal
  have fin : ∀ s6, only [48] s5 s6 → (∀ j : Int, j < 68 → s6 48 j = s5 48 j) → m_isKept a u s5 = some (0, s6) → (s 60 0 = 0 → kpR t4 c (s6 48)) → (s 60 0 = 1 → ∀ j : Int, 68 ≤ j → s6 48 j = s 48 j) → ∃ τ' s', x7_gives c a u τ = some (0, τ') ∧ m_gives a u s = some (0, s') ∧ (onG c τ τ' ∧ only gvk s s') ∧ RLc τ' s' N c es fs ws vs ∧ (rwR τ' c ∧ 0 ≤ τ' c 2 ∧ τ' c 2 ≤ 50) ∧ (s 60 0 = 0 → kpR τ' c (s' 48)) ∧ ((τ' (c + 4) a = u ∧ ∀ j, j ≠ a → τ' (c + 4) j = τ (c + 4) j) ∧ s' 62 a = u ∧ ∀ j, j ≠ a → s' 62 j = s 62 j) ∧ s' 61 0 = s 61 0 + 1 ∧ ((∀ i : Int, i ≠ 2 → τ' c i = τ c i) ∧ τ' (c + 1) = τ (c + 1) ∧ τ' (c + 2) = τ (c + 2)) ∧ (s 60 0 = 1 → ∀ j : Int, 68 ≤ j → s' 48 j = s 48 j) := fun s6 o6 w6 m6 kp kq => by
    have oo : only gvk s s6 := o5.tr (o6.mono (by unfold gvk; intro k; simp; omega))
    refine ⟨t4, s6, xr, mr s6 m6, ⟨G4, oo⟩, ⟨al4, G4.scr hc hal hS (stn.of oo (by decide)), hc, st4 _ w6⟩, R4, kp, ⟨⟨by rw [gt4, if_pos rfl], fun j hj => by rw [gt4, if_neg hj]⟩, by rw [o6 62 (by decide), gs5, if_pos rfl], fun j hj => by rw [o6 62 (by decide), gs5, if_neg hj]⟩, by rw [o6 61 (by decide)]; exact s61, ⟨fun i hi => by rw [c4]; exact c3 i hi, ?_, ?_⟩, kq⟩
    · rw [k4 _ (by omega) (by omega)]; exact k3 _ (by omega) (by omega) (by omega) (by omega)
    · rw [k4 _ (by omega) (by omega)]; exact k3 _ (by omega) (by omega) (by omega) (by omega)
  rcases hth with h60 | h60
  · obtain ⟨kp1, kp2⟩ := hkp h60
    have z68 : s5 48 68 = s 48 68 := by rw [s448, if_neg (by omega), d2v, if_neg (by omega)]
    have zj : ∀ j : Int, 68 ≤ j → s5 48 j = s 48 j := fun j hj => by rw [s448, if_neg (by omega), d2v, if_neg (by omega)]
    have z0 : s5 48 0 = s 48 0 := by rw [s448, if_neg (by omega), d2v, if_neg (by omega)]
    obtain ⟨s6, m1, m2, m3, m4, m5⟩ := isKept_ev (s := s5) (by rw [s60]; exact h60) (by rw [z68]; exact kp1.2) a u
    refine fin s6 m2 m3 m1 (fun _ => ?_) (fun q => by omega)
    -- the rows are alike
    have rr : ∀ k i : Int, 0 ≤ k → k < 50 → t4 (t4 (c + 12) k) i = t3 (t3 (c + 12) k) i := fun k i h0 h1 => by
      have q := (x4 k h0 h1).1
      rw [r4, k4 _ (by omega) (by omega)]
    have r23 : ∀ k i : Int, 0 ≤ k → k < 50 → t2 (t2 (c + 12) k) i = τ (τ (c + 12) k) i := fun k i h0 h1 => by
      have q := (hr k h0 h1).1
      rw [r2, k2 _ (by omega) (by omega)]
    rw [c2] at x5 x6
    have k12 : t4 c 2 = s6 48 68 := by
      rw [c4]
      rcases x5 with ⟨a1, a2, -⟩ | ⟨a1, a2, -⟩ <;> rcases m4 with ⟨b1, b2, -⟩ | ⟨b1, b2, -⟩ <;> omega
    refine ⟨⟨k12, by rw [← k12]; exact R4.2⟩, fun k i h0 h1 i0 i1 => ?_⟩
    have kb : s6 48 68 ≤ 50 := by rw [← k12]; exact R4.2.2
    rw [rr k i h0 (by omega)]
    by_cases lst : k = s6 48 68 - 1
    · have e3 : t3 c 2 - 1 = k := by rw [← c4, k12]; omega
      rw [e3] at x6
      rw [← lst] at m5
      have hh : i = 0 ∨ i = 1 ∨ i = 2 := by omega
      rcases hh with rfl | rfl | rfl
      · rw [x6.1, Int.add_zero, m5.1, z0]; exact hst.1.1
      · rw [x6.2.1, m5.2.1]
      · rw [x6.2.2, m5.2.2]
    · rcases x5 with ⟨a1, a2, a3⟩ | ⟨a1, a2, a3⟩
      · rcases m4 with ⟨b1, b2, b3⟩ | ⟨b1, b2, b3⟩
        · rw [a3 k i h0 (by omega), r23 k i h0 (by omega), b3 _ (by omega) (by omega), zj _ (by omega)]
          exact kp2 k i h0 (by omega) i0 i1
        · omega
      · rcases m4 with ⟨b1, b2, b3⟩ | ⟨b1, b2, b3⟩
        · omega
        · rw [a3 k i h0 (by omega), r23 (k + 1) i (by omega) (by omega), b3 _ (by omega) (by omega), zj _ (by omega), show 69 + 3 * k + i + 3 = 69 + 3 * (k + 1) + i by omega]
          exact kp2 (k + 1) i (by omega) (by omega) i0 i1
  · refine fin s5 only.rf (fun _ _ => rfl) ?_ (fun h0 => by omega) (fun _ j hj => by rw [s448, if_neg (by omega), d2v, if_neg (by omega)])
    unfold m_isKept
    refine st_f ?_ rfl
    rw [s60, h60]; exact n10
end
