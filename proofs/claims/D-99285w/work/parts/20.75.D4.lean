set_option maxRecDepth 100000
/-! LAYER 2: a day, of both -/
/-- only the state at c and the standing cells of searches have changed -/
def onD (c : Int) (τ τ' : XS) : Prop := ∀ y, (y < 10 ∨ 35 < y ∨ y = 11 ∨ y = 12 ∨ y = 13) → ¬ (c ≤ y ∧ y ≤ c + 62) → τ' y = τ y
section
variable {τ τ' : XS} {s s' : MS} {N c : Int} {es fs : List Int} {ws vs : List (List Int)} {a u : Int}
theorem onD.rf : onD c τ τ := fun _ _ _ => rfl
theorem onD.tr {τ2 : XS} (h : onD c τ τ') (h2 : onD c τ' τ2) : onD c τ τ2 := fun y h3 h4 => (h2 y h3 h4).trans (h y h3 h4)
theorem onD.lx (h : lox τ τ') : onD c τ τ' := fun y h1 _ => h y h1
theorem onD.og (h : onG c τ τ') : onD c τ τ' := fun y h1 h2 => h y (by omega) h2
theorem onD.kps (h : onD c τ τ') (hc : isSt c) : kps τ τ' := by
  have hb := isSt_b hc
  exact ⟨by rw [h (-1) (by omega) (by omega)]; exact Int.le_refl _, fun y hy _ => h y (by unfold fre at hy; omega) (by unfold fre at hy; omega)⟩
theorem onD.alk (h : onD c τ τ') (hc : isSt c) (ha : al τ) : al τ' := by
  have hb := isSt_b hc
  have eN := h (-1) (by omega) (by omega)
  refine ⟨by rw [eN]; exact ha.1, by rw [eN]; exact ha.2.1, fun y hy => ?_⟩
  rw [eN] at hy
  have := ha.1
  rw [h y (by omega) (by omega)]
  exact ha.2.2 y hy
def dyk : List Nat := [47, 48, 50, 51, 52, 53, 54, 55, 56, 57, 58, 59, 61, 62, 102, 103]
/-- what holds of a state as it goes on: its rows, what is kept -/
def STk (τ : XS) (s : MS) (c : Int) : Prop := (rwR τ c ∧ 0 ≤ τ c 2 ∧ τ c 2 ≤ 50) ∧ (s 60 0 = 0 ∨ s 60 0 = 1) ∧ (s 60 0 = 0 → kpR τ c (s 48))
theorem rwR.rng (h : rwR τ c) {k : Int} (h0 : 0 ≤ k) (h1 : k < 50) : c + 13 ≤ τ (c + 12) k ∧ τ (c + 12) k ≤ c + 62 := (h k h0 h1).1
theorem STk.kp (h : STk τ s c) (e : ∀ y, c + 12 ≤ y → y ≤ c + 62 → τ' y = τ y) (e2 : τ' c 2 = τ c 2) (h60 : s' 60 = s 60) (h48 : ∀ j : Int, 68 ≤ j → s' 48 j = s 48 j) : STk τ' s' c := by
  have e12 := e (c + 12) (by omega) (by omega)
  obtain ⟨⟨h1, h2⟩, h3, h4⟩ := h
  refine ⟨⟨h1.kept e12, by rw [e2]; exact h2⟩, by rw [h60]; exact h3, fun q => ?_⟩
  rw [h60] at q
  obtain ⟨k1, k2⟩ := h4 q
  refine ⟨by rw [e2, h48 68 (by omega)]; exact k1, fun k i k0 k3 i0 i1 => ?_⟩
  rw [h48 68 (by omega)] at k3
  have r := h1.rng k0 (by omega)
  rw [e12, e _ (by omega) (by omega), h48 _ (by omega)]
  exact k2 k i k0 k3 i0 i1
theorem STk.lx (h : STk τ s c) (hc : isSt c) (hl : lox τ τ') (h60 : s' 60 = s 60) (h48 : s' 48 = s 48) : STk τ' s' c := by
  have hb := isSt_b hc
  exact h.kp (fun y h1 h2 => hl y (by omega)) (by rw [hl c (by omega)]) h60 (fun j _ => by rw [h48])
theorem none_ev : ∃ s', m_givesNone s = some (0, s') ∧ only [62] s s' ∧ ∀ j : Int, 0 ≤ j → j < 6 → s' 62 j = -1 := by
  obtain ⟨s', ⟨q1, q2⟩, q3⟩ := for0 (fun f i t => m_givesNone_L2 (fun (s9 : MS) => some (0, s9)) f i t) (fun (s9 : MS) => some (0, s9)) 6 (fun i t => only [62] s t ∧ ∀ j : Int, 0 ≤ j → j < i → t 62 j = -1) (by omega) (by omega)
    (fun i t hI h0 hi => by
      have ii : i32 i = i := i32_id (by omega) (by omega)
      refine ⟨up t 62 i (-1), ⟨hI.1.tr (only.up (by decide)), fun j j0 j1 => ?_⟩, fun f => ?_⟩
      · by_cases e : j = i
        · rw [e, up_s]
        · rw [up_i _ _ _ _ e]; exact hI.2 j j0 (by omega)
      · rw [m_givesNone_L2]
        refine st_f (by rw [ii, i32_id (by omega) (by omega)]; omega) (st_gd (by unfold ok; rw [ii]; omega) (st_be (e' := up t 62 i (-1)) (by rw [ii]) (st_bnd rfl))))
    (fun t hI f => by
      rw [m_givesNone_L2]
      exact st_t (Int.le_refl _) rfl) s ⟨only.rf, fun j h0 h1 => by omega⟩
  exact ⟨s', by unfold m_givesNone; exact st_bnd q3, q1, q2⟩
theorem RLc.g4 (h : RLc τ s N c es fs ws vs) {i x : Int} : RLc (ux τ (c + 4) i x) s N c es fs ws vs := by
  obtain ⟨hal, hS, hc, hst⟩ := h
  have hb := isSt_b hc
  have G : onG c τ (ux τ (c + 4) i x) := onG.rf.ux (by omega)
  refine ⟨G.alk hc hal, G.scr hc hal hS stn.rf, hc, ?_⟩
  unfold stR
  rw [ux_cell (show c ≠ c + 4 by omega), ux_cell (show c + 1 ≠ c + 4 by omega), ux_cell (show c + 2 ≠ c + 4 by omega), ux_cell (show c + 3 ≠ c + 4 by omega)]
  refine ⟨hst.1, hst.2.1, fun o h0 h1 => ?_⟩
  rw [ux_cell (show c + 5 + 1 + o ≠ c + 4 by omega)]
  exact hst.2.2 o h0 h1
/-- the verbs that are given on a day, from a saying on -/
theorem day_go (D : Int) (hD : 0 ≤ D ∧ D < 128) (r : List Int) (hr : rowOk ws.length vs.length r) (KX : Int → XS → Option (Int × XS)) (KM : MS → Option (Int × MS)) : ∀ (d : Nat) (o z : Int) (τ : XS) (s : MS) (fx fm : Nat), 0 ≤ o → o + d = ws.length → (0 ≤ z ∧ z ≤ o) → RLc τ s N c es fs ws vs → STk τ s c → holdsX τ 34 r → hR s 54 r → s 55 0 = 1 → (∀ j : Int, 0 ≤ j → j < o → τ (c + 4) j = s 62 j ∧ -1 ≤ s 62 j ∧ s 62 j ≤ 6) → (∀ j : Int, o ≤ j → j < 6 → s 62 j = -1) → d < fx → d < fm →
    ∃ z' τ' s', x7_passes_L35 c KX fx D 1 z o τ = KX z' τ' ∧ m_dayGoes_L19 KM fm D o s = KM s' ∧ (onG c τ τ' ∧ only gvk s s') ∧ RLc τ' s' N c es fs ws vs ∧ STk τ' s' c ∧ (∀ j : Int, 0 ≤ j → j < ws.length → τ' (c + 4) j = s' 62 j ∧ -1 ≤ s' 62 j ∧ s' 62 j ≤ 6) ∧ (z ≤ z' ∧ z' ≤ ws.length ∧ s' 61 0 = s 61 0 + (z' - z)) ∧ (∀ i : Int, i ≠ 2 → τ' c i = τ c i) ∧ (s 60 0 = 1 → ∀ j : Int, 68 ≤ j → s' 48 j = s 48 j) := by
  intro d
  induction d with
  | zero =>
    intro o z τ s fx fm h0 hd hz h hk h34 h54 h55 hg hn hfx hfm
    obtain ⟨f, rfl⟩ : ∃ f, fx = f + 1 := ⟨fx - 1, by omega⟩
    obtain ⟨g, rfl⟩ : ∃ g, fm = g + 1 := ⟨fm - 1, by omega⟩
    obtain ⟨-, ⟨⟨-, hn6, h36⟩, -⟩, -⟩ := h.2.1
    have le : i32 (ws.length : Int) ≤ i32 o := by rw [i32_id (by omega) (by omega), i32_id (by omega) (by omega)]; omega
    refine ⟨z, τ, s, ?_, ?_, ⟨onG.rf, only.rf⟩, h, hk, fun j j0 j1 => hg j j0 (by omega), ⟨by omega, by omega, by omega⟩, fun _ _ => rfl, fun _ _ _ => rfl⟩
    · rw [x7_passes_L35]
      exact st_bind (sayings_ev h.2.1.cty) (st_t le rfl)
    · rw [m_dayGoes_L19]
      exact st_bind (sayMany_ev h36) (st_t le rfl)
  | succ d ih =>
    intro o z τ s fx fm h0 hd hz h hk h34 h54 h55 hg hn hfx hfm
    obtain ⟨f, rfl⟩ : ∃ f, fx = f + 1 := ⟨fx - 1, by omega⟩
    obtain ⟨g, rfl⟩ : ∃ g, fm = g + 1 := ⟨fm - 1, by omega⟩
    obtain ⟨-, ⟨⟨-, hn6, h36⟩, -, hv7, -⟩, -⟩ := h.2.1
    have hc := h.2.2.1
    have hb := isSt_b hc
    have io : i32 o = o := i32_id (by omega) (by omega)
    have oko : ok 6 o := by unfold ok; rw [io]; omega
    have nle : ¬ i32 (ws.length : Int) ≤ i32 o := by rw [io, i32_id (by omega) (by omega)]; omega
    have n55 : ¬ i32 (s 55 0) = 0 := by rw [h55]; exact n10
    have hl : o.toNat < r.length := by rw [hr.1]; omega
    have eo : ((o.toNat : Nat) : Int) = o := by omega
    obtain ⟨u, eu⟩ : ∃ u, r[o.toNat] = u := ⟨_, rfl⟩
    have hu := hr.2 u (by rw [← eu]; exact List.getElem_mem hl)
    have gu : r[o.toNat]? = some u := by rw [List.getElem?_eq_getElem hl, eu]
    have x34 : τ 34 o = u := by have := h34 _ _ gu; rw [eo] at this; exact this
    have s54 : s 54 o = u := by have := h54 _ _ gu; rw [eo] at this; exact this
    obtain ⟨t1, e1⟩ : ∃ t1, ux τ (c + 4) o (-1) = t1 := ⟨_, rfl⟩
    have e1' : ux τ (c + 4) (i32 o) (-1) = t1 := by rw [io]; exact e1
    have h1 : RLc t1 s N c es fs ws vs := by rw [← e1]; exact h.g4
    have G1 : onG c τ t1 := by rw [← e1]; exact onG.rf.ux (by omega)
    have c1 : t1 c = τ c := by rw [← e1]; exact ux_cell (by omega)
    have k1 : STk t1 s c := hk.kp (fun y q1 q2 => by rw [← e1]; exact ux_cell (by omega)) (by rw [c1]) rfl (fun _ _ => rfl)
    have g1 : ∀ j : Int, j ≠ o → t1 (c + 4) j = τ (c + 4) j := fun j hj => by rw [← e1, ux_i _ _ _ _ hj]
    have g1o : t1 (c + 4) o = -1 := by rw [← e1, ux_s]
    have hh := hasb_ev t1 hD (o := o) (by omega)
    have mh := has_ev hD (o := o) (by omega)
    cases hbit : bit D o with
    | true =>
      rw [hbit] at hh mh
      obtain ⟨z', τ', s', a1, a2, ⟨a3, a4⟩, a5, a6, a7, a8, a9, a10⟩ := ih (o + 1) z t1 s f g (by omega) (by omega) (by omega) h1 k1 (h34.of (G1 34 (by omega) (by omega))) h54 h55 (fun j j0 j1 => by
        by_cases ej : j = o
        · rw [ej, g1o, hn o (by omega) (by omega)]; omega
        · rw [g1 j ej]; exact hg j j0 (by omega)) (fun j j0 j1 => hn j (by omega) j1) (by omega) (by omega)
      refine ⟨z', τ', s', ?_, ?_, ⟨G1.tr a3, a4⟩, a5, a6, a7, a8, fun i hi => by rw [a9 i hi, c1], a10⟩
      · rw [x7_passes_L35]
        exact st_bind (sayings_ev h.2.1.cty) (st_f nle (st_gd oko (st_be e1' (st_bnd (st_f n10 (st_bind hh (st_f n10 (st_bnd a1))))))))
      · rw [m_dayGoes_L19]
        exact st_bind (sayMany_ev h36) (st_f nle (st_f n55 (st_bnd (st_f (by rw [mh]; exact n10) (st_bnd a2)))))
    | false =>
      rw [hbit] at hh mh
      obtain ⟨t2, s2, b1, b2, ⟨b3, b4⟩, b5, b6, b7, ⟨⟨b8, b9⟩, b10, b11⟩, b12, ⟨b13, b14, b15⟩, b16⟩ := gives_ok h1 k1.1.1 k1.1.2 k1.2.1 k1.2.2 (a := o) (u := u) (by omega) hu
      have k2 : STk t2 s2 c := ⟨b6, by rw [b4 60 (by decide)]; exact k1.2.1, fun q => b7 (by rw [b4 60 (by decide)] at q; exact q)⟩
      obtain ⟨z', τ', s', a1, a2, ⟨a3, a4⟩, a5, a6, a7, a8, a9, a10⟩ := ih (o + 1) (z + 1) t2 s2 f g (by omega) (by omega) (by omega) b5 k2 (h34.of (by rw [b3 34 (by omega) (by omega), G1 34 (by omega) (by omega)])) (h54.of (b4 54 (by decide))) (by rw [b4 55 (by decide)]; exact h55) (fun j j0 j1 => by
        by_cases ej : j = o
        · rw [ej, b8, b10]; omega
        · rw [b9 j ej, b11 j ej, g1 j ej]; exact hg j j0 (by omega)) (fun j j0 j1 => by rw [b11 j (by omega)]; exact hn j (by omega) j1) (by omega) (by omega)
      refine ⟨z', τ', s', ?_, ?_, ⟨(G1.tr b3).tr a3, b4.tr a4⟩, a5, a6, a7, ⟨by omega, a8.2.1, by rw [a8.2.2, b12]; omega⟩, fun i hi => by rw [a9 i hi, b13 i hi, c1], fun q j hj => by rw [a10 (by rw [b4 60 (by decide)]; exact q) j hj]; exact b16 q j hj⟩
      · rw [x7_passes_L35]
        refine st_bind (sayings_ev h.2.1.cty) (st_f nle (st_gd oko (st_be e1' (st_bnd (st_f n10 (st_bind hh (st_t i32_0 (st_gd oko (st_bind (z := (0, t2)) ?_ (st_bnd (st_bnd a1)))))))))))
        dsimp only
        rw [io, G1 34 (by omega) (by omega), x34]
        exact b1
      · rw [m_dayGoes_L19]
        refine st_bind (sayMany_ev h36) (st_f nle (st_f n55 (st_bnd (st_t (by rw [mh]; exact i32_0) (st_gd oko (st_bind (z := (0, s2)) ?_ (st_bnd a2)))))))
        dsimp only
        rw [io, s54]
        exact b2
/-- none is given -/
theorem day_no (D : Int) (KX : Int → XS → Option (Int × XS)) (z : Int) : ∀ (d : Nat) (o : Int) (τ : XS) (fx : Nat), 0 ≤ o → o + d = ws.length → RLc τ s N c es fs ws vs → (∀ j : Int, 0 ≤ j → j < o → τ (c + 4) j = -1) → d < fx →
    ∃ τ', x7_passes_L35 c KX fx D 0 z o τ = KX z τ' ∧ RLc τ' s N c es fs ws vs ∧ (∀ y, y ≠ c + 4 → τ' y = τ y) ∧ ∀ j : Int, 0 ≤ j → j < ws.length → τ' (c + 4) j = -1 := by
  intro d
  induction d with
  | zero =>
    intro o τ fx h0 hd h hg hfx
    obtain ⟨f, rfl⟩ : ∃ f, fx = f + 1 := ⟨fx - 1, by omega⟩
    obtain ⟨-, ⟨⟨-, hn6, h36⟩, -⟩, -⟩ := h.2.1
    refine ⟨τ, ?_, h, fun _ _ => rfl, fun j j0 j1 => hg j j0 (by omega)⟩
    rw [x7_passes_L35]
    refine st_bind (sayings_ev h.2.1.cty) (st_t ?_ rfl)
    dsimp only
    rw [i32_id (by omega) (by omega), i32_id (by omega) (by omega)]; omega
  | succ d ih =>
    intro o τ fx h0 hd h hg hfx
    obtain ⟨f, rfl⟩ : ∃ f, fx = f + 1 := ⟨fx - 1, by omega⟩
    obtain ⟨-, ⟨⟨-, hn6, h36⟩, -⟩, -⟩ := h.2.1
    have io : i32 o = o := i32_id (by omega) (by omega)
    have oko : ok 6 o := by unfold ok; rw [io]; omega
    obtain ⟨t1, e1⟩ : ∃ t1, ux τ (c + 4) o (-1) = t1 := ⟨_, rfl⟩
    obtain ⟨τ', a1, a2, a3, a4⟩ := ih (o + 1) t1 f (by omega) (by omega) (by rw [← e1]; exact h.g4) (fun j j0 j1 => by
      by_cases ej : j = o
      · rw [ej, ← e1, ux_s]
      · rw [← e1, ux_i _ _ _ _ ej]; exact hg j j0 (by omega)) (by omega)
    refine ⟨τ', ?_, a2, fun y hy => by rw [a3 y hy, ← e1, ux_cell hy], a4⟩
    rw [x7_passes_L35]
    refine st_bind (sayings_ev h.2.1.cty) (st_f ?_ (st_gd oko (st_be (e' := t1) (by dsimp only; rw [io]; exact e1) (st_bnd (st_t i32_0 (st_bnd a1))))))
    dsimp only
    rw [io, i32_id (by omega) (by omega)]; omega
end
