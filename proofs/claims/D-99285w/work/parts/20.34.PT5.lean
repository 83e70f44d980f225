set_option maxRecDepth 100000
/-! LAYER 2: both read a whole test -/
section
variable {T : Int → Int} {n : Int} {fl : Bool}
theorem fact_all (T : Int → Int) (n : Int) (fl : Bool) : ∀ m : Nat, FactOK T n fl ((m : Int) - 1)
  | 0 => fun kx p pm o τ s C W rs k fo hr _ _ hG => by
    have hp := hG.2.2.2.2.1
    simp at hr
    omega
  | m + 1 => by
    have := fact_step (fact_all T n fl m)
    rw [show ((m : Int) - 1 + 1) = ((m + 1 : Nat) : Int) - 1 by omega] at this
    exact this
theorem go110 {tk p o : Int} (k : MS → Option (Int × MS)) : ∀ (rs : List Int) (fuel : Nat) (C : List Int) (s : MS), rs.length < fuel → C.length + rs.length < 1690 → mQ T n tk s p C rs.reverse 0 o → ∃ s', m_qTest_L110 k fuel s = k s' ∧ only pks s s' ∧ mQ T n tk s' p (C ++ rs) [] 0 o := by
  intro rs
  induction rs with
  | nil =>
    intro fuel C s hf hl h
    obtain ⟨f, rfl⟩ : ∃ f, fuel = f + 1 := ⟨fuel - 1, by simp at hf; omega⟩
    have h5 := h.b5
    refine ⟨s, ?_, only.rf, by simpa using h⟩
    obtain ⟨g, ⟨⟨a1, a2⟩, a3, a4⟩, -⟩ := h
    rw [m_qTest_L110]
    exact st_t (z32 h5) (st_t (by rw [a3]; decide) rfl)
  | cons y rs ih =>
    intro fuel C s hf hl h
    obtain ⟨f, rfl⟩ : ∃ f, fuel = f + 1 := ⟨fuel - 1, by simp at hf; omega⟩
    have h5 := h.b5
    rw [List.reverse_cons] at h
    rw [List.length_cons] at hl hf
    obtain ⟨s1, d1, d2, d3⟩ := qDrops_ev h (by simp; omega) (by omega)
    obtain ⟨s', f1, f2, f3⟩ := ih f (C ++ [y]) s1 (by omega) (by rw [List.length_append, List.length_singleton]; omega) d3
    rw [List.append_assoc, List.singleton_append] at f3
    refine ⟨s', ?_, d2.tr f2, f3⟩
    obtain ⟨g, ⟨⟨a1, a2⟩, a3, a4⟩, -⟩ := h
    rw [List.length_append, List.length_singleton, List.length_reverse] at a3
    rw [m_qTest_L110]
    refine st_t (z32 h5) (st_f ?_ (st_bind d1 f1))
    rw [a3, i32_id (by omega) (by omega)]
    omega
noncomputable def kT : MS → Option (Int × MS) := fun (s26 : MS) =>
      m_qTest_L110
        (fun (s32 : MS) =>
          some (0, s32))
        FU s26
theorem qTest_eq (s : MS) : m_qTest s = mTf kT FU s := rfl
def TestsR (T : Int → Int) (n : Int) (fl : Bool) (τ : XS) (p o : Int) (s : MS) (C : List Int) : Prop :=
  (∃ cs p' c τ' s', x2_test (x2_fact 9) τ = some (0, c, τ') ∧ (ext τ τ' ∧ xG T n τ' p' ∧ τ' 7 4 = o ∧ XT τ' (rg (τ (-1) 0) (τ' (-1) 0)) fl (DT o + 2) c cs) ∧ (rn qB T n p < p' ∧ p' ≤ rn qB T n p') ∧ rmo (60 * (p' - p) - 16) (500 * (p' - p) - 40 + 4 * wlq T n p') τ τ' ∧ (m_qTest s = some (0, s') ∧ only pks s s' ∧ mQ T n (tkf fl) s' (rn qB T n p') (C ++ cs) [] 0 o) ∧ (cs.length : Int) ≤ p' - rn qB T n p) ∨
  (∃ kd pl τ' s', x2_test (x2_fact 9) τ = some (1, 0, τ') ∧ xB kd pl τ τ' ∧ rmo (60 * (n - p) + 72) (500 * (n - p) + 230) τ τ' ∧ m_qTest s = some (0, s') ∧ mBw kd pl s s' ∧ 1 ≤ kd ∧ kd ≤ 5) ∨
  (∃ q τ' s' Cx ox, x2_test (x2_fact 9) τ = some (1, 0, τ') ∧ xB 1 q τ τ' ∧ rmo (60 * (n - p) + 72) (500 * (n - p) + 230) τ τ' ∧ (m_qTest s = some (0, s') ∧ only pks s s' ∧ mQ T n (tkf fl) s' q Cx [] 0 ox) ∧ (rn qB T n q = q ∧ qL (bA T n q) = true) ∧ (Cx.length : Int) ≤ C.length + (q - rn qB T n p))
theorem tests_ok (p pm : Int) (τ : XS) (s : MS) (C : List Int) (hpm : rn qB T n pm = rn qB T n p) (hG : xG T n τ p) (ho : τ 7 4 = 0) (hcx : τ 7 5 = ctx fl) (hQ : mQ T n (tkf fl) s pm C [] 0 0) (hCW : (C.length : Int) ≤ rn qB T n p) : TestsR T n fl τ p 0 s C := by
  have hp := hG.2.2.2.2.1
  have hn := hG.1.1
  have hle := rn_le (q := qB) (T := T) (n := n) p
  have hsk := sk_b hG
  have hFU := FU_ge
  have hA := fact_all T n fl (n + 1).toNat
  rw [show (((n + 1).toNat : Nat) : Int) - 1 = n by omega] at hA
  have ht := test_ok hA 9 p pm 0 τ s C [] kT FU (by omega) hpm (by omega) hG ho hcx hQ (Or.inl rfl) (Or.inl rfl) (Or.inl rfl) (by simp) (by simp; omega) (by omega)
  rw [← qTest_eq] at ht
  rcases ht with ⟨p', pm', c, τ', s1, D, ops, gl, go, x1, ⟨x2, x3, x4, x5⟩, ⟨z1, z2, z3, z4⟩, x7, ⟨y1, y2, y3⟩, x8, o1, ⟨nx1, nx2⟩, x9, x10⟩ | ⟨kd, pl, τ', s1, x1, x2, x3, x4, x5, x6⟩ | ⟨q, τ', s1, Cx, Wx, ox, x1, x2, x3, ⟨x4, x5, x6⟩, x7, x8, x9⟩
  · have hp' := x3.2.2.2.2.1
    have hle' := rn_le (q := qB) (T := T) (n := n) p'
    obtain ⟨gl, rfl⟩ : ∃ g, gl = g + 1 := ⟨gl - 1, by omega⟩
    obtain ⟨go, rfl⟩ : ∃ g, go = g + 1 := ⟨go - 1, by omega⟩
    obtain ⟨u1, -⟩ := U_off (k := kT) (fl := gl) (fo := go) y3 (by rw [List.length_append]; omega) (by simp; omega) (by rw [z1]; exact nx1) (by rw [z1]; exact nx2)
    obtain ⟨s2, d1, d2, d3⟩ := u1 (by
      rw [List.nil_append]
      intro h
      have := o1 25 (List.mem_reverse.mp h)
      omega)
    rw [z1, List.nil_append] at d3
    obtain ⟨s3, f1, f2, f3⟩ := go110 (fun (s32 : MS) => some (0, s32)) ops FU (C ++ D) s2 (by omega) (by rw [List.length_append]; omega) d3
    refine Or.inl ⟨D ++ ops, p', c, τ', s3, x1, ⟨x2, x3, x4, x5⟩, ⟨by omega, hle'⟩, x7, ⟨?_, (y2.tr d2).tr f2, by rw [← List.append_assoc]; exact f3⟩, by rw [List.length_append]; omega⟩
    rw [y1, d1]
    exact f1
  · refine Or.inr (Or.inl ⟨kd, pl, τ', s1, x1, x2, x3, ?_, x5, x6⟩)
    rw [x4]
    unfold kT
    obtain ⟨f, hf⟩ := FU_s
    rw [hf, m_qTest_L110]
    exact st_f (by rw [x5.2.1, i32_id (by omega) (by omega)]; omega) rfl
  · obtain ⟨s3, f1, f2, f3⟩ := go110 (fun (s32 : MS) => some (0, s32)) Wx.reverse FU Cx s1 (by rw [List.length_reverse]; omega) (by rw [List.length_reverse]; omega) (by rw [List.reverse_reverse]; exact x6)
    refine Or.inr (Or.inr ⟨q, τ', s3, Cx ++ Wx.reverse, ox, x1, x2, x3, ⟨?_, x5.tr f2, f3⟩, ⟨x7.1, x7.2.1⟩, by have h9 := x9.2; rw [List.length_nil] at h9; rw [List.length_append, List.length_reverse]; omega⟩)
    rw [x4]
    exact f1
end
