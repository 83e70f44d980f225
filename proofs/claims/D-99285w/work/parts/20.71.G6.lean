set_option maxRecDepth 100000
/-! LAYER 2: the best giving of both -/
section
variable {τ τ' : XS} {s s' : MS} {N c : Int} {es fs : List Int} {ws vs : List (List Int)} {a u : Int}
def lgk : List Nat := [47, 50, 51, 52, 53, 54, 55, 56, 102, 103]
theorem onxG (h : onx [19, 34, 35] τ τ') : lox τ τ' := lox.of h (by simp)
/-- what a giving lays in both -/
def GVb (τ' : XS) (s' : MS) (n nv : Nat) (cn : Int → Int → Bool) (wl : Int → Int → Int) (b : Option (List Int)) : Prop := gvX τ' n nv wl b ∧ gvM s' n nv wl b ∧ xgR τ' n nv cn wl ∧ mgR s' n nv 1 cn ∧ mwR s' n nv wl
theorem by_x (h : RLc τ s N c es fs ws vs) : ∃ τ', x6_by c τ = some (19, τ') ∧ lox τ τ' ∧ τ' 19 4 = skV vs.length (τ c 1) ∧ gvX τ' ws.length vs.length (wlX c τ) (gvF ws.length vs.length (cnX c τ) (wlX c τ) (skV vs.length (τ c 1))) ∧ xgR τ' ws.length vs.length (cnX c τ) (wlX c τ) := by
  obtain ⟨-, ⟨⟨-, hn, h36⟩, -, hv, h37⟩, -⟩ := h.2.1
  obtain ⟨l1, -, -⟩ := h.2.2.2.2.1
  obtain ⟨k1, k2⟩ := skV_b (nv := vs.length) (by omega) l1
  have hst := isSt_b h.2.2.1
  obtain ⟨τ1, a1, a2, a3⟩ := by_go h (fun (s29 : XS) =>
      Option.bind (x7_sack c s29) fun z30 =>
      Option.bind (x6_in z30.1 z30.2) fun z31 =>
      gd (z31.1 = 19) <|
      some (19, z31.2))
  have h1 := h.lx a2 stn.rf rfl
  have sk := sack_x h1
  rw [a2 c (by omega)] at sk
  obtain ⟨τ2, b1, b2, b3, b4⟩ := x6_in_ev (cn := cnX c τ) (wl := wlX c τ) hn hv k1 h1.2.1.cty a3
  refine ⟨τ2, ?_, a2.tr (onxG b2), b3, b4, a3.kept hn b2⟩
  unfold x6_by
  exact st_gd h.2.2.1 (st_bnd (a1.trans (st_bind sk (st_bind b1 (st_gd rfl rfl)))))
theorem by_m (h : RLc τ s N c es fs ws vs) : ∃ s', m_laysGiving s = some (0, s') ∧ only lgk s s' ∧ gvM s' ws.length vs.length (wlX c τ) (gvF ws.length vs.length (cnX c τ) (wlX c τ) (skV vs.length (τ c 1))) ∧ mgR s' ws.length vs.length 1 (cnX c τ) ∧ mwR s' ws.length vs.length (wlX c τ) := by
  obtain ⟨-, ⟨⟨-, hn, h36⟩, -, hv, h37⟩, -⟩ := h.2.1
  obtain ⟨l1, -, -⟩ := h.2.2.2.2.1
  obtain ⟨k1, k2⟩ := skV_b (nv := vs.length) (by omega) l1
  obtain ⟨s1, a1, a2, a3, a4⟩ := lays_ev h
  have h1 : RLc τ s1 N c es fs ws vs := h.lx lox.rf (stn.of a2 (by decide)) (a2 48 (by decide))
  have sk := sack_m h1
  obtain ⟨s2, b1, b2, b3⟩ := mLg_ev k1 a3 a4
  refine ⟨s2, ?_, (a2.mono (by unfold lpk lgk; intro k; simp; omega)).tr (b2.mono (by unfold lgk; intro k; simp; omega)), b3, a3.kept (b2 36 (by decide)) (b2 52 (by decide)), fun o v q1 q2 q3 q4 => by rw [b2 51 (by decide)]; exact a4 o v q1 q2 q3 q4⟩
  unfold m_laysGiving
  refine st_bind a1 (st_bind sk (st_bnd (st_bind (sayMany_ev a3.1.1) (st_bnd ?_))))
  by_cases h0 : ws.length = 0
  · rw [if_pos h0] at b1
    exact st_t (by dsimp only; rw [h0]; exact i32_0) b1
  · rw [if_neg h0] at b1
    refine st_f ?_ b1
    dsimp only
    rw [i32_id (by omega) (by omega)]
    omega
theorem gvF_row {n nv : Nat} {cn : Int → Int → Bool} {wl : Int → Int → Int} {of : Int} {r : List Int} (h : gvF n nv cn wl of = some r) : rowOk n nv r := by
  unfold gvF wbt at h
  rcases best_mem _ _ _ h with h | h
  · obtain ⟨a1, a2⟩ := rws_mem _ _ _ h (fun u hu => by cases hu)
    exact ⟨by simpa using a1, a2⟩
  · cases h
end
