set_option maxRecDepth 100000
/-! LAYER 2: what holds between the two from call to call -/
def iBas (τ : XS) (s : MS) : Prop := (al τ ∧ cst τ) ∧ mWd s ∧ s 60 0 = 0
def iTap (τ : XS) (s : MS) : Prop := (∀ k : Int, 0 ≤ k → k < 1600 → τ 6 k = sb (s 0 k) ∧ 0 ≤ s 0 k ∧ s 0 k < 256) ∧ τ 0 2 = s 1 0 ∧ 0 ≤ s 1 0 ∧ s 1 0 ≤ 1600
def iFlt (τ : XS) (s : MS) : Prop := τ 0 3 = s 7 0 ∧ τ 0 4 = s 8 0
def iRef (τ : XS) (s : MS) : Prop := ∀ k : Int, 0 ≤ k → k < 6 → τ 13 k = s 9 k
def iNow (τ : XS) (s : MS) (n v : Int) : Prop := stR τ 36 (s 48) n v ∧ kpR τ 36 (s 48) ∧ rwR τ 36 ∧ s 48 0 ≤ 999
/-- the cells of states that are kept aside -/
def ksl (y : Int) : Prop := ∃ q : Int, 0 ≤ q ∧ q < 20 ∧ y = 177 + 63 * q
/-- a row of the ring -/
def rgW (s : MS) (r : Int) : Int → Int := fun i => s 69 (219 * r + i)
def iKep (τ : XS) (s : MS) (n v : Int) : Prop := (τ 0 19 = s 70 0 ∧ 0 ≤ s 70 0 ∧ s 70 0 ≤ 20) ∧ (0 ≤ s 71 0 ∧ s 71 0 < 20) ∧ (∀ j : Int, 0 ≤ j → j < 20 → (ksl (τ 176 j) ∧ rwR τ (τ 176 j)) ∧ ∀ i : Int, 0 ≤ i → i < 20 → τ 176 j = τ 176 i → j = i) ∧ ∀ j : Int, 0 ≤ j → j < s 70 0 → (stR τ (τ 176 j) (rgW s ((s 71 0 + 21 - s 70 0 + j) % 20)) n v ∧ kpR τ (τ 176 j) (rgW s ((s 71 0 + 21 - s 70 0 + j) % 20))) ∧ rgW s ((s 71 0 + 21 - s 70 0 + j) % 20) 0 ≤ 999
def iRow (τ : XS) (s : MS) (n v : Int) : Prop := (τ 0 16 = s 64 0 ∧ 0 ≤ s 64 0 ∧ s 64 0 ≤ 16) ∧ ∀ k : Int, 0 ≤ k → k < s 64 0 → (τ 162 k = s 65 (3 * k) ∧ 0 ≤ s 65 (3 * k) ∧ s 65 (3 * k) ≤ 20) ∧ (τ 163 k = s 65 (3 * k + 1) ∧ 0 ≤ s 65 (3 * k + 1) ∧ s 65 (3 * k + 1) < n) ∧ (τ 164 k = s 65 (3 * k + 2) ∧ -1 ≤ s 65 (3 * k + 2) ∧ s 65 (3 * k + 2) < v)
def iSed (τ : XS) (s : MS) : Prop := τ 0 20 = s 72 0 ∧ 0 ≤ s 72 0 ∧ s 72 0 < 2147483648
def iOut (τ : XS) (s : MS) : Prop := (τ 0 23 = s 107 0 ∧ 0 ≤ s 107 0 ∧ s 107 0 ≤ 70) ∧ ∀ k : Int, 0 ≤ k → k < s 107 0 → τ 1437 k = sb (s 106 k) ∧ 0 ≤ s 106 k ∧ s 106 k < 256
/-- the relation -/
def INV (τ : XS) (s : MS) (N : Int) (es fs : List Int) (ws vs : List (List Int)) : Prop :=
  iBas τ s ∧ iTap τ s ∧ (iFlt τ s ∧ iRef τ s) ∧ SCR τ s N (τ 0 0) es fs ws vs ∧ iNow τ s ws.length vs.length ∧ rwR τ 99 ∧ iKep τ s ws.length vs.length ∧ iRow τ s ws.length vs.length ∧ iSed τ s ∧ iOut τ s
/-- room -/
def RM (τ : XS) (s : MS) (τ' : XS) (s' : MS) : Prop := τ' (-1) 0 + 60 * s' 1 0 ≤ τ (-1) 0 + 60 * s 1 0 + 1400 ∧ τ' (-1) 1 + 500 * s' 1 0 ≤ τ (-1) 1 + 500 * s 1 0 + 11000
/-- one call of both -/
def CL (τ : XS) (s : MS) (X : Option (Int × XS)) (M : Option (Int × MS)) : Prop := ∃ z τ' s' N es fs ws vs, X = some (z, τ') ∧ M = some (z, s') ∧ INV τ' s' N es fs ws vs ∧ RM τ s τ' s'
theorem ksl.st {y : Int} (h : ksl y) : isSt y ∧ 177 ≤ y ∧ y + 62 ≤ 1436 := by
  obtain ⟨q, h1, h2, h3⟩ := h
  refine ⟨Or.inr ⟨by omega, by omega, ?_⟩, by omega, by omega⟩
  omega
theorem st36 : isSt 36 := by decide
theorem st99 : isSt 99 := by decide
/-- what a question of the law leaves alone -/
def onQ (τ τ' : XS) : Prop := ∀ y, (y < 10 ∨ (35 < y ∧ y < 99) ∨ (161 < y ∧ y < 165) ∨ 175 < y ∨ y = 11 ∨ y = 12 ∨ y = 13) → τ' y = τ y
theorem onQ.rf {τ : XS} : onQ τ τ := fun _ _ => rfl
theorem onQ.tr {τ τ1 τ2 : XS} (h : onQ τ τ1) (h2 : onQ τ1 τ2) : onQ τ τ2 := fun y hy => (h2 y hy).trans (h y hy)
theorem onQ.lx {τ τ' : XS} (h : lox τ τ') : onQ τ τ' := fun y hy => h y (by omega)
theorem onQ.od {τ τ' : XS} (h : onD 99 τ τ') : onQ τ τ' := fun y hy => h y (by omega) (by omega)
/-- the reference's fields that questions use -/
def qfk : List Nat := [47, 49, 50, 51, 52, 53, 54, 55, 56, 57, 58, 59, 61, 62, 63, 66, 67, 68, 102, 103]
section
variable {τ τ' : XS} {s s' : MS} {N : Int} {es fs : List Int} {ws vs : List (List Int)}
theorem stR.cl {c n v : Int} {w : Int → Int} (h : stR τ c w n v) (hn : n ≤ 6) (e : ∀ y, c ≤ y → y ≤ c + 62 → τ' y = τ y) : stR τ' c w n v := by
  unfold stR
  rw [e c (by omega) (by omega), e (c + 1) (by omega) (by omega), e (c + 2) (by omega) (by omega), e (c + 3) (by omega) (by omega)]
  refine ⟨h.1, h.2.1, fun o h0 h1 => ?_⟩
  rw [e (c + 5 + 1 + o) (by omega) (by omega)]
  exact h.2.2 o h0 h1
theorem kpR.cl {c : Int} {w : Int → Int} (h : kpR τ c w) (hr : rwR τ c) (e : ∀ y, c ≤ y → y ≤ c + 62 → τ' y = τ y) : kpR τ' c w := by
  unfold kpR
  rw [e c (by omega) (by omega), e (c + 12) (by omega) (by omega)]
  refine ⟨h.1, fun k i k0 k1 i0 i1 => ?_⟩
  have := (hr k k0 (by have := h.1; omega)).1
  rw [e _ (by omega) (by omega)]
  exact h.2 k i k0 k1 i0 i1
theorem iKep.kept {n v : Int} (h : iKep τ s n v) (hn : n ≤ 6) (e0 : τ' 0 19 = τ 0 19) (e : ∀ y, 176 ≤ y → y ≤ 1436 → τ' y = τ y) (h69 : s' 69 = s 69) (h70 : s' 70 = s 70) (h71 : s' 71 = s 71) : iKep τ' s' n v := by
  have e176 := e 176 (by omega) (by omega)
  unfold iKep rgW
  rw [e0, e176, h69, h70, h71]
  obtain ⟨a1, a2, a3, a4⟩ := h
  refine ⟨a1, a2, fun j j0 j1 => ⟨⟨(a3 j j0 j1).1.1, (a3 j j0 j1).1.2.kept ?_⟩, (a3 j j0 j1).2⟩, fun j j0 j1 => ?_⟩
  · have := (a3 j j0 j1).1.1.st
    exact e _ (by omega) (by omega)
  · obtain ⟨q1, q2⟩ := (a3 j j0 (by omega)).1
    have kb := q1.st
    obtain ⟨⟨p1, p2⟩, p3⟩ := a4 j j0 j1
    exact ⟨⟨p1.cl hn (fun y y0 y1 => e y (by omega) (by omega)), p2.cl q2 (fun y y0 y1 => e y (by omega) (by omega))⟩, p3⟩
theorem iRow.kept {n v : Int} (h : iRow τ s n v) (e0 : τ' 0 16 = τ 0 16) (e : ∀ y, 162 ≤ y → y ≤ 164 → τ' y = τ y) (h64 : s' 64 = s 64) (h65 : s' 65 = s 65) : iRow τ' s' n v := by
  unfold iRow
  rw [e0, e 162 (by omega) (by omega), e 163 (by omega) (by omega), e 164 (by omega) (by omega), h64, h65]
  exact h
theorem iTap.kept (h : iTap τ s) (e6 : τ' 6 = τ 6) (e0 : τ' 0 2 = τ 0 2) (h0 : s' 0 = s 0) (h1 : s' 1 = s 1) : iTap τ' s' := by
  unfold iTap
  rw [e6, e0, h0, h1]
  exact h
theorem iOut.kept (h : iOut τ s) (e0 : τ' 0 23 = τ 0 23) (e : τ' 1437 = τ 1437) (h6 : s' 106 = s 106) (h7 : s' 107 = s 107) : iOut τ' s' := by
  unfold iOut
  rw [e0, e, h6, h7]
  exact h
theorem cst.kp (ha : al τ) (hk : kps τ τ') (hN : ∀ i : Int, 2 ≤ i → τ' (-1) i = τ (-1) i) (h : cst τ) : cst τ' :=
  h.off hN (fun y hy ht => hk.2 y hy (by rcases ht with t | t | t <;> exact tag_lt ha t (by decide)))
theorem INV.le (h : INV τ s N es fs ws vs) : ws.length ≤ 6 ∧ vs.length ≤ 7 ∧ s 36 2 = ws.length ∧ s 36 3 = vs.length := by
  obtain ⟨-, -, -, ⟨-, ⟨⟨-, hn, h36⟩, -, hv, h37⟩, -⟩, -⟩ := h
  exact ⟨hn, hv, h36, h37⟩
/-- a question leaves all as it is -/
theorem INV.q (h : INV τ s N es fs ws vs) (hq : onQ τ τ') (ho : only qfk s s') (hr : rwR τ' 99) : INV τ' s' N es fs ws vs := by
  have hn := h.le.1
  obtain ⟨⟨⟨h1, h2⟩, h3, h4⟩, h5, ⟨h6, h7⟩, h8, ⟨h9, h10, h11, h12⟩, h13, h14, h15, h16, h17⟩ := h
  have e0 : τ' 0 = τ 0 := hq 0 (by omega)
  have eN : τ' (-1) = τ (-1) := hq (-1) (by omega)
  have al' : al τ' := by
    refine ⟨by rw [eN]; exact h1.1, by rw [eN]; exact h1.2.1, fun y hy => ?_⟩
    rw [eN] at hy
    rw [hq y (by have := h1.1; omega)]
    exact h1.2.2 y hy
  have kp : kps τ τ' := ⟨by rw [eN]; exact Int.le_refl _, fun y hy _ => hq y (by unfold fre at hy; omega)⟩
  have e36 : ∀ y, 36 ≤ y → y ≤ 36 + 62 → τ' y = τ y := fun y a b => hq y (by omega)
  refine ⟨⟨⟨al', h2.kp h1 kp (fun i _ => by rw [eN])⟩, h3.of ho (by decide), by rw [ho 60 (by decide)]; exact h4⟩, h5.kept (hq 6 (by omega)) (by rw [e0]) (ho 0 (by decide)) (ho 1 (by decide)), ⟨?_, ?_⟩, ?_, ⟨?_, ?_, h11.kept (e36 _ (by omega) (by omega)), by rw [ho 48 (by decide)]; exact h12⟩, hr, h14.kept (by omega) (by rw [e0]) (fun y a b => hq y (by omega)) (ho 69 (by decide)) (ho 70 (by decide)) (ho 71 (by decide)), h15.kept (by rw [e0]) (fun y a b => hq y (by omega)) (ho 64 (by decide)) (ho 65 (by decide)), ?_, h17.kept (by rw [e0]) (hq 1437 (by omega)) (ho 106 (by decide)) (ho 107 (by decide))⟩
  · unfold iFlt; rw [e0, ho 7 (by decide), ho 8 (by decide)]; exact h6
  · unfold iRef; rw [hq 13 (by omega), ho 9 (by decide)]; exact h7
  · rw [e0]; exact h8.kp h1 kp (stn.of ho (by decide))
  · rw [ho 48 (by decide)]; exact h9.cl (by omega) e36
  · rw [ho 48 (by decide)]; exact h10.cl h11 e36
  · unfold iSed; rw [e0, ho 72 (by decide)]; exact h16
theorem RM.rf (h1 : τ' (-1) = τ (-1)) (h2 : s' 1 = s 1) : RM τ s τ' s' := by
  unfold RM
  rw [h1, h2]
  omega
/-- a question of both -/
theorem INV.qc (h : INV τ s N es fs ws vs) {X : Option (Int × XS)} {M : Option (Int × MS)} {z : Int} (hx : X = some (z, τ')) (hm : M = some (z, s')) (hq : onQ τ τ') (ho : only qfk s s') (hr : rwR τ' 99) : CL τ s X M :=
  ⟨z, τ', s', N, es, fs, ws, vs, hx, hm, h.q hq ho hr, RM.rf (hq (-1) (by omega)) (ho 1 (by decide))⟩
theorem INV.same (h : INV τ s N es fs ws vs) {X : Option (Int × XS)} {M : Option (Int × MS)} {z : Int} (hx : X = some (z, τ)) (hm : M = some (z, s)) : CL τ s X M := h.qc hx hm onQ.rf only.rf h.2.2.2.2.2.1
theorem INV.rl (h : INV τ s N es fs ws vs) : RLc τ s N 36 es fs ws vs := ⟨h.1.1.1, h.2.2.2.1, st36, h.2.2.2.2.1.1⟩
theorem INV.sk (h : INV τ s N es fs ws vs) : STk τ s 36 := ⟨⟨h.2.2.2.2.1.2.2.1, by have := h.2.2.2.2.1.2.1.1; omega⟩, Or.inl h.1.2.2, fun _ => h.2.2.2.2.1.2.1⟩
theorem INV.q36 (h : INV τ s N es fs ws vs) (hl : lox τ τ') : rwR τ' 99 := h.2.2.2.2.2.1.kept (hl _ (by omega))
end
