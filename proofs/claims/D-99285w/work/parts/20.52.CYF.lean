set_option maxRecDepth 100000
/-! LAYER 2: one more saying in both -/
section
variable {T : Int → Int} {n p : Int} {τb τ τ' : XS} {s s' s0 : MS} {c : Int}
theorem CYR.addS {es fs : List Int} {ws vs : List (List Int)} {d x : Int} {w : List Int} (ha : al τ) (h : CYR τ s c d es fs ws vs) (hx : syOk τ s' es.length x w) (hlen : ws.length ≤ 5) (hw : w.length ≤ 6 ∧ ∀ y ∈ w, 97 ≤ y ∧ y ≤ 122) (hm : ∀ k ∈ ([35, 39, 40, 41, 42, 43, 44, 45] : List Nat), s' k = s k) (h36 : s' 36 0 = s 36 0 + 1 ∧ s' 36 1 = s 36 1) (h37 : s' 37 (ws.length : Int) = nmV w ∧ ∀ j : Int, j ≠ (ws.length : Int) → s' 37 j = s 37 j) (h38 : ∀ j : Int, j < 3 * es.length → s' 38 j = s 38 j) :
    ∃ τ', j2_add true (τ c 4) x τ = some (1, τ') ∧ al τ' ∧ CYR τ' s' c d (es ++ [x]) fs (ws ++ [w]) vs ∧ (∀ y, y ≠ -1 → y ≠ τ c 4 → y ≠ τ (τ c 4) 1 → y < τ (-1) 0 → τ' y = τ y) ∧ (∀ τb : XS, τb (-1) 0 ≤ τ (-1) 0 → lsb τb τ c → lsb τb τ' c) ∧ rmo 1 100 τ τ' ∧ (∀ i, 2 ≤ i → τ' (-1) i = τ (-1) i) ∧ τ (-1) 0 ≤ τ' (-1) 0 ∧ τ (-1) 1 ≤ τ' (-1) 1 := by
  obtain ⟨hc, ⟨a1, a2, a3⟩, ⟨b1, b2⟩, f, ⟨l0, l1, l2⟩, g⟩ := h
  have hfl : es.length = ws.length := a1.1
  have t := hc.tags
  obtain ⟨τ', e1, e2, e3, e4, e5, eb, e6, e7, e8, e9⟩ := hc.add4 ha (x := x) ⟨hx.1.1, by have := hx.1.2; omega, by have := hx.1.2; omega⟩ (fun y hy => by
    obtain ⟨i, hi, e⟩ := List.getElem_of_mem hy
    have k := (a1.2 i y (ws[i]'(by omega)) (by rw [List.getElem?_eq_getElem hi, e]) (List.getElem?_eq_getElem (by omega))).1.2
    omega) (by omega)
  have hk3 : ∀ y, fre y → (τ y (-1) = 9 ∨ τ y (-1) = 10 ∨ τ y (-1) = 22 ∨ τ y (-1) = 102) → τ' y = τ y := fun y hf ht => e5 y (fre_ne hf) (fun e => by rw [e] at ht; omega) (fun e => by rw [e] at ht; omega) (tag_lt ha (c := y) rfl (by omega))
  have hck : ∀ k cs, cdM s k cs → cdM s' k cs := fun k cs q => by
    unfold cdM
    rw [hm 41 (by decide), hm 42 (by decide), hm 43 (by decide), hm 44 (by decide)]
    exact q
  have ec : τ' c = τ c := e5 c (by have := hc.1.1; omega) (fun e => by rw [← e] at t; omega) (fun e => by rw [← e] at t; omega) (tag_lt ha t.1 (by decide))
  have lk : ∀ k, lawV τ s c k → lawV τ' s' c k := fun k q => by
    unfold lawV
    rw [ec, hm 41 (by decide)]
    rcases q with q | ⟨cs, q1, q2⟩
    · exact Or.inl q
    · exact Or.inr ⟨cs, XV_more (fun y hy => (e4 y hy).2) _ _ _ (XV_kept (fun y hy => (e4 y hy).1) _ _ _ q1), hck _ _ q2⟩
  refine ⟨τ', e1, e2, ⟨e3, ⟨⟨?_, ?_⟩, ?_, by rw [List.length_append, List.length_singleton]; omega⟩, ⟨⟨b1.1, fun i x w q1 q2 => (b1.2 i x w q1 q2).kept hk3 (fun j _ _ => by rw [hm 39 (by decide)])⟩, ?_⟩, ?_, ⟨?_, lk 1 l1, lk 2 l2⟩, ?_⟩, e5, eb, e6.mono (by omega) (by omega), e7, e8, e9⟩
  · rw [List.length_append, List.length_append, hfl]; rfl
  · intro i y v q1 q2
    rcases snoc_get q1 with ⟨i1, q3⟩ | ⟨i1, q3⟩
    · rcases snoc_get q2 with ⟨i2, q4⟩ | ⟨i2, q4⟩
      · exact (a1.2 i y v q3 q4).kept hk3 (fun j j0 j1 => h38 j (by omega))
      · omega
    · rcases snoc_get q2 with ⟨i2, q4⟩ | ⟨i2, q4⟩
      · omega
      · rw [← q3, ← q4, i1]
        exact hx.kept hk3 (fun j _ _ => rfl)
  · refine ⟨by rw [h36.1, a2.1, List.length_append, List.length_singleton]; omega, by rw [List.length_append, List.length_singleton]; omega, fun i v hi => ?_⟩
    rcases snoc_get hi with ⟨i1, q⟩ | ⟨i1, q⟩
    · rw [h37.2 _ (by omega)]
      exact a2.2.2 i v q
    · rw [i1, ← q, show (8 : Int) * 0 + (ws.length : Int) = (ws.length : Int) by omega]
      exact ⟨h37.1, hw⟩
  · refine ⟨by rw [h36.2]; exact b2.1, b2.2.1, fun i w hi => ?_⟩
    rw [h37.2 _ (by omega)]
    exact b2.2.2 i w hi
  · unfold cyF
    rw [ec, hm 45 (by decide), hm 35 (by decide), hm 40 (by decide)]
    exact f
  · unfold lawT
    rw [ec, hm 41 (by decide)]
    rcases l0 with q | ⟨cs, q1, q2⟩
    · exact Or.inl q
    · exact Or.inr ⟨cs, XT_kept (fun y hy => (e4 y hy).1) (fun y hy => (e4 y hy).2) _ _ _ q1, hck _ _ q2⟩
  · rw [hm 44 (by decide)]; exact g
end
