set_option maxRecDepth 100000
/-! LAYER 2: one more in a list of the country -/
section
variable {T : Int → Int} {n p : Int} {τb τ τ' : XS} {s s' s0 : MS} {c : Int}
theorem cyS.add5 {es fs : List Int} {x : Int} (ha : al τ) (hc : cyS τ c es fs) (hx : 1514 ≤ x ∧ 0 < τ x (-1) ∧ τ x (-1) < 100) (hf : ∀ y ∈ fs, 0 < τ y (-1) ∧ τ y (-1) < 100) (hl : fs.length ≤ 100) :
    ∃ τ', j2_add true (τ c 5) x τ = some (1, τ') ∧ al τ' ∧ cyS τ' c es (fs ++ [x]) ∧ (∀ y, cyn τ c y → τ' y = τ y ∧ cyn τ' c y) ∧ (∀ y, y ≠ -1 → y ≠ τ c 5 → y ≠ τ (τ c 5) 1 → y < τ (-1) 0 → τ' y = τ y) ∧ (∀ τb : XS, τb (-1) 0 ≤ τ (-1) 0 → lsb τb τ c → lsb τb τ' c) ∧ rmo 1 (8 * fs.length + 40) τ τ' ∧ (∀ i, 2 ≤ i → τ' (-1) i = τ (-1) i) ∧ τ (-1) 0 ≤ τ' (-1) 0 ∧ τ (-1) 1 ≤ τ' (-1) 1 := by
  have t := hc.tags
  have hN := ha.1
  obtain ⟨h1, h2, ⟨h3, h4⟩, h5, h6⟩ := id hc
  have b1 := tag_lt ha t.1 (by decide)
  have b2 := tag_lt ha t.2.1 (by decide)
  have b3 := tag_lt ha t.2.2.1 (by decide)
  have b4 := tag_lt ha t.2.2.2.1 (by decide)
  have b5 := tag_lt ha t.2.2.2.2 (by decide)
  have n1 : c ≠ τ c 5 := fun e => by rw [← e] at t; omega
  have n2 : c ≠ τ (τ c 5) 1 := fun e => by rw [← e] at t; omega
  have n3 : τ c 4 ≠ τ (τ c 5) 1 := fun e => by rw [← e] at t; omega
  have n4 : τ (τ c 4) 1 ≠ τ c 5 := fun e => by rw [e] at t; omega
  obtain ⟨τ', a1, a2, a3, a4, a5, a6, a7, a8, a9⟩ := add_ev ha (S := nwc) (fun y h => h) h5 h6 (by omega) hx hf
  have l5 : 1514 ≤ τ c 5 := h5.1.1
  have l4 : 1514 ≤ τ c 4 := h3.1.1
  have l51 : 1514 ≤ τ (τ c 5) 1 := h5.2.1.1
  have l41 : 1514 ≤ τ (τ c 4) 1 := h3.2.1.1
  have kept : ∀ y, y ≠ -1 → y ≠ τ c 5 → y ≠ τ (τ c 5) 1 → y < τ (-1) 0 → τ' y = τ y := fun y q1 q2 q3 q4 => a3 y q1 q2 (by rcases a4 with ⟨q, -⟩ | ⟨q, -⟩ <;> rw [q] <;> omega)
  have ec := kept c (by omega) n1 n2 b1
  have e4 := kept (τ c 4) (by omega) h2.1 n3 b2
  have e41 := kept (τ (τ c 4) 1) (by omega) n4 h2.2 b3
  have lst := a5 nwc (fun y h => h) hx.1 (by
    unfold nwc
    rcases a4 with ⟨q, -⟩ | ⟨q, -⟩ <;> rw [q] <;> omega)
  have ne1 : τ (τ c 4) 1 ≠ τ' (τ c 5) 1 := by
    rcases a4 with ⟨q, -⟩ | ⟨q, -⟩ <;> rw [q]
    · exact h2.2
    · omega
  refine ⟨τ', a1, a2, ?_, fun y hy => ?_, kept, fun τb hb h => ?_, ?_, a9, a7.1, a8.1⟩
  · unfold cyS
    rw [ec, e4, e41]
    refine ⟨h1, ⟨h2.1, ne1⟩, ⟨h3.kep2 e4 e41, h4⟩, lst, a6.1, ?_⟩
    have := a6.2
    rw [List.length_append, List.length_singleton]
    omega
  · obtain ⟨⟨y1, y2⟩, y3, ⟨y4, y5⟩, y6, y7⟩ := hy
    refine ⟨kept y (by omega) y6 y7 y2, ⟨y1, by omega⟩, y3, ?_, ?_⟩
    · rw [ec, e4]; exact ⟨y4, y5⟩
    · rw [ec]
      refine ⟨y6, ?_⟩
      rcases a4 with ⟨q, -⟩ | ⟨q, -⟩ <;> rw [q]
      · exact y7
      · omega
  · unfold lsb at *
    rw [ec, e4]
    refine ⟨h.1, h.2.1, h.2.2.1, ?_⟩
    have := h.2.2.2
    rcases a4 with ⟨q, -⟩ | ⟨q, -⟩ <;> rw [q] <;> omega
  · unfold rmo
    have := a7.2
    have := a8.2
    have := a6.2
    omega
theorem cyS.add4 {es fs : List Int} {x : Int} (ha : al τ) (hc : cyS τ c es fs) (hx : 1514 ≤ x ∧ 0 < τ x (-1) ∧ τ x (-1) < 100) (hf : ∀ y ∈ es, 0 < τ y (-1) ∧ τ y (-1) < 100) (hl : es.length ≤ 100) :
    ∃ τ', j2_add true (τ c 4) x τ = some (1, τ') ∧ al τ' ∧ cyS τ' c (es ++ [x]) fs ∧ (∀ y, cyn τ c y → τ' y = τ y ∧ cyn τ' c y) ∧ (∀ y, y ≠ -1 → y ≠ τ c 4 → y ≠ τ (τ c 4) 1 → y < τ (-1) 0 → τ' y = τ y) ∧ (∀ τb : XS, τb (-1) 0 ≤ τ (-1) 0 → lsb τb τ c → lsb τb τ' c) ∧ rmo 1 (8 * es.length + 40) τ τ' ∧ (∀ i, 2 ≤ i → τ' (-1) i = τ (-1) i) ∧ τ (-1) 0 ≤ τ' (-1) 0 ∧ τ (-1) 1 ≤ τ' (-1) 1 := by
  have t := hc.tags
  have hN := ha.1
  obtain ⟨h1, h2, ⟨h3, h4⟩, h5, h6⟩ := id hc
  have b1 := tag_lt ha t.1 (by decide)
  have b2 := tag_lt ha t.2.1 (by decide)
  have b3 := tag_lt ha t.2.2.1 (by decide)
  have b4 := tag_lt ha t.2.2.2.1 (by decide)
  have b5 := tag_lt ha t.2.2.2.2 (by decide)
  have n1 : c ≠ τ c 4 := fun e => by rw [← e] at t; omega
  have n2 : c ≠ τ (τ c 4) 1 := fun e => by rw [← e] at t; omega
  have n3 : τ c 5 ≠ τ (τ c 4) 1 := fun e => by rw [← e] at t; omega
  have n4 : τ (τ c 5) 1 ≠ τ c 4 := fun e => by rw [e] at t; omega
  obtain ⟨τ', a1, a2, a3, a4, a5, a6, a7, a8, a9⟩ := add_ev ha (S := nwc) (fun y h => h) h3 h4 (by omega) hx hf
  have l5 : 1514 ≤ τ c 5 := h5.1.1
  have l4 : 1514 ≤ τ c 4 := h3.1.1
  have l51 : 1514 ≤ τ (τ c 5) 1 := h5.2.1.1
  have l41 : 1514 ≤ τ (τ c 4) 1 := h3.2.1.1
  have kept : ∀ y, y ≠ -1 → y ≠ τ c 4 → y ≠ τ (τ c 4) 1 → y < τ (-1) 0 → τ' y = τ y := fun y q1 q2 q3 q4 => a3 y q1 q2 (by rcases a4 with ⟨q, -⟩ | ⟨q, -⟩ <;> rw [q] <;> omega)
  have ec := kept c (by omega) n1 n2 b1
  have e5 := kept (τ c 5) (by omega) (Ne.symm h2.1) n3 b4
  have e51 := kept (τ (τ c 5) 1) (by omega) n4 (Ne.symm h2.2) b5
  have lst := a5 nwc (fun y h => h) hx.1 (by
    unfold nwc
    rcases a4 with ⟨q, -⟩ | ⟨q, -⟩ <;> rw [q] <;> omega)
  have ne1 : τ' (τ c 4) 1 ≠ τ (τ c 5) 1 := by
    rcases a4 with ⟨q, -⟩ | ⟨q, -⟩ <;> rw [q]
    · exact h2.2
    · omega
  refine ⟨τ', a1, a2, ?_, fun y hy => ?_, kept, fun τb hb h => ?_, ?_, a9, a7.1, a8.1⟩
  · unfold cyS
    rw [ec, e5, e51]
    refine ⟨h1, ⟨h2.1, ne1⟩, ⟨lst, a6.1, ?_⟩, h5.kep2 e5 e51, h6⟩
    have := a6.2
    rw [List.length_append, List.length_singleton]
    omega
  · obtain ⟨⟨y1, y2⟩, y3, ⟨y4, y5⟩, y6, y7⟩ := hy
    refine ⟨kept y (by omega) y4 y5 y2, ⟨y1, by omega⟩, y3, ?_, ?_⟩
    · rw [ec]
      refine ⟨y4, ?_⟩
      rcases a4 with ⟨q, -⟩ | ⟨q, -⟩ <;> rw [q]
      · exact y5
      · omega
    · rw [ec, e5]; exact ⟨y6, y7⟩
  · unfold lsb at *
    rw [ec, e5]
    refine ⟨h.1, ⟨h.2.1.1, ?_⟩, h.2.2⟩
    have := h.2.1.2
    rcases a4 with ⟨q, -⟩ | ⟨q, -⟩ <;> rw [q] <;> omega
  · unfold rmo
    have := a7.2
    have := a8.2
    have := a6.2
    omega
end
