set_option maxRecDepth 100000
/-! LAYER 2: a number from 0 to 9, of both -/
section
variable {T : Int → Int} {n p : Int} {τ τ' : XS} {s s' : MS}
theorem numN (hG : xG T n τ p) (hM : mG T n s p) :
    (∃ v e τ' s', x2_number 0 9 τ = some (0, v, τ') ∧ (ext τ τ' ∧ xG T n τ' e ∧ τ' 7 4 = τ 7 4) ∧ rn qB T n p < e ∧ rmo 0 0 τ τ' ∧ (0 ≤ v ∧ v ≤ 9) ∧ m_number 0 9 s = some (v, s') ∧ only [2, 4] s s' ∧ mG T n s' e) ∨
    (∃ kd pl τ' v s', x2_number 0 9 τ = some (1, 0, τ') ∧ xB kd pl τ τ' ∧ rmo 0 0 τ τ' ∧ m_number 0 9 s = some (v, s') ∧ mB kd pl s s' ∧ 1 ≤ kd ∧ kd ≤ 5) := by
  obtain ⟨X1, X2⟩ := number_ev hG (lo := 0) (hi := 9) (by omega) (by omega)
  obtain ⟨M1, M2⟩ := m_number_ev hM (lo := 0) (hi := 9) (by omega) (by omega)
  by_cases h0 : (tkN T n p 0 9).1 = 0
  · obtain ⟨τ2, y1, y2, y3, y4, y5⟩ := X1 h0
    obtain ⟨s2, b1, b2, b3⟩ := M1 h0
    obtain ⟨t1, t2⟩ := tkN_end h0
    refine Or.inl ⟨_, _, τ2, s2, y1, ⟨y2, y3, y4⟩, t1, ?_, t2, b1, b2, b3⟩
    unfold rmo
    rw [y5]
    omega
  · obtain ⟨τ2, y1, y2, y3⟩ := X2 h0
    obtain ⟨v, s2, b1, b2, b3⟩ := M2 h0
    refine Or.inr ⟨_, _, τ2, v, s2, y1, y2, ?_, b1, b3, tkN_kd h0⟩
    unfold rmo
    rw [y3]
    omega
end
