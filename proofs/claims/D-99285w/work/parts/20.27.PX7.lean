set_option maxRecDepth 100000
/-! LAYER 2: both read a whole sum -/
section
variable {T : Int → Int} {n tk b o p : Int} {fl : Bool} {s : MS} {W : List Int}
theorem go53 (k : Int → MS → Option (Int × MS)) {x : Int} (hb : (W.length : Int) = b) : ∀ (rs : List Int) (fuel : Nat) (C : List Int) (s : MS), rs.length < fuel → C.length + W.length + rs.length < 1690 → mQ T n tk s p C (W ++ rs.reverse) b o → ∃ s', m_qSums_L53 k fuel x s = k x s' ∧ only pks s s' ∧ mQ T n tk s' p (C ++ rs) W b o := by
  intro rs
  induction rs with
  | nil =>
    intro fuel C s hf hl h
    obtain ⟨f, rfl⟩ : ∃ f, fuel = f + 1 := ⟨fuel - 1, by simp at hf; omega⟩
    have h5 := h.b5
    simp only [List.reverse_nil, List.append_nil, List.length_nil] at h hl
    refine ⟨s, ?_, only.rf, by simpa using h⟩
    obtain ⟨g, ⟨⟨a1, a2⟩, a3, a4⟩, ⟨a5, a6⟩, a7, a8, a9, a10⟩ := h
    rw [m_qSums_L53]
    exact st_t (z32 h5) (st_t (by rw [a3, a6, hb]; exact Int.le_refl _) rfl)
  | cons y rs ih =>
    intro fuel C s hf hl h
    obtain ⟨f, rfl⟩ : ∃ f, fuel = f + 1 := ⟨fuel - 1, by simp at hf; omega⟩
    have h5 := h.b5
    rw [List.reverse_cons, ← List.append_assoc] at h
    rw [List.length_cons] at hl hf
    have hlen : (W ++ rs.reverse).length = W.length + rs.length := by simp
    obtain ⟨s1, d1, d2, d3⟩ := qDrops_ev h (by rw [hlen]; omega) (by rw [hlen]; omega)
    obtain ⟨s', f1, f2, f3⟩ := ih f (C ++ [y]) s1 (by omega) (by rw [List.length_append, List.length_singleton]; omega) d3
    rw [List.append_assoc, List.singleton_append] at f3
    refine ⟨s', ?_, d2.tr f2, f3⟩
    obtain ⟨g, ⟨⟨a1, a2⟩, a3, a4⟩, ⟨a5, a6⟩, a7, a8, a9, a10⟩ := h
    rw [List.length_append, List.length_singleton, hlen] at a3
    rw [m_qSums_L53]
    refine st_t (z32 h5) (st_f ?_ (st_bind d1 f1))
    rw [a3, a6, i32_id (by omega) (by omega), i32_id (by omega) (by omega)]
    omega
noncomputable def kS : Int → MS → Option (Int × MS) := fun (x1_22 : Int) (s23 : MS) =>
      m_qSums_L53
        (fun (x1_31 : Int) (s32 : MS) =>
          bnd (up s32 101 0 x1_31) fun s33 =>
          some (0, s33))
        FU x1_22 s23
theorem qSums_eq (s : MS) : m_qSums s = m_qSums_L15 kS FU (s 101 0) 1 (up s 101 0 (s 99 0)) := rfl
def SumsR (T : Int → Int) (n : Int) (fl : Bool) (τ : XS) (p o : Int) (s : MS) (C W : List Int) (b : Int) : Prop :=
  (∃ cs p' c τ' s', x2_sum (x2_atom 9) τ = some (0, c, τ') ∧ (ext τ τ' ∧ xG T n τ' p' ∧ τ' 7 4 = o ∧ XV τ' (rg (τ (-1) 0) (τ' (-1) 0)) fl (Dd o + 2) c cs) ∧ (rn qB T n p' = p' ∧ rn qB T n p < p') ∧ rmo (60 * (p' - p) - 6) (400 * (p' - p) - 100) τ τ' ∧ (m_qSums s = some (0, s') ∧ only pks s s' ∧ mQ T n (tkf fl) s' p' (C ++ cs) W b o) ∧ (cs.length : Int) ≤ p' - rn qB T n p ∧ nsg (bA T n p')) ∨
  (∃ kd pl τ' s', x2_sum (x2_atom 9) τ = some (1, 0, τ') ∧ xB kd pl τ τ' ∧ rmo (60 * (n - p) + 30) (400 * (n - p) + 160) τ τ' ∧ m_qSums s = some (0, s') ∧ mBq kd pl s s' ∧ 1 ≤ kd ∧ kd ≤ 5)
theorem sums_ok (p pm o : Int) (τ : XS) (s : MS) (C W : List Int) (b : Int) (hpm : rn qB T n pm = rn qB T n p) (hG : xG T n τ p) (ho : τ 7 4 = o) (hcx : τ 7 5 = ctx fl) (hQ : mQ T n (tkf fl) s pm C W b o) (hW : s14 W) (hW3 : s34 W) (hCW : (C.length + W.length : Int) ≤ rn qB T n p) : SumsR T n fl τ p o s C W b := by
  have hp := hG.2.2.2.2.1
  have hn := hG.1.1
  have hle := rn_le (q := qB) (T := T) (n := n) p
  have hsk := sk_b hG
  have hFU := FU_ge
  obtain ⟨f, hf⟩ : ∃ f, FU = f + 1 := ⟨FU - 1, by omega⟩
  have h5 := hQ.b5
  obtain ⟨g, ⟨⟨a1, a2⟩, a3, a4⟩, ⟨a5, a6⟩, a7, a8, a9, a10⟩ := id hQ
  have ho2 : only [101] s (up s 101 0 (s 99 0)) := only.up (by decide)
  have hQ2 : mQ T n (tkf fl) (up s 101 0 (s 99 0)) pm C W W.length o := ⟨g.of' ho2 (by decide), ⟨⟨by rw [ho2 97 (by decide)]; exact a1, a2.of (ho2 96 (by decide))⟩, by rw [ho2 99 (by decide)]; exact a3, a4.of (ho2 98 (by decide))⟩, ⟨by rw [ho2 100 (by decide)]; exact a5, by rw [up_s]; exact a3⟩, by rw [ho2 47 (by decide)]; exact a7, a8, ⟨by omega, by omega⟩, a10⟩
  have hA := atom_all T n fl (n + 1).toNat
  rw [show (((n + 1).toNat : Nat) : Int) - 1 = n by omega] at hA
  have hsum := sum_ok hA 9 p pm o τ (up s 101 0 (s 99 0)) C W W.length kS (s 101 0) FU f (by omega) hpm (by omega) hG ho hcx hQ2 hW hW3 (Or.inl rfl) (Int.le_refl _) hCW (by omega) (by omega)
  have hgo : m_qSums s = mEf kS (s 101 0) FU f (up s 101 0 (s 99 0)) := by
    rw [qSums_eq, hf, L15_go hQ2.b5, ← hf]
  rcases hsum with ⟨p', pm', c, τ', s1, D, ops, fl', fo', x1, ⟨x2, x3, x4, x5⟩, ⟨z1, z2, z3⟩, x7, ⟨y1, y2, y3⟩, x8, o1, nx, x9, x10⟩ | ⟨kd, pl, τ', s1, x1, x2, x3, x4, x5, x6⟩
  · have hp' := x3.2.2.2.2.1
    obtain ⟨fl'', rfl⟩ : ∃ g, fl' = g + 1 := ⟨fl' - 1, by omega⟩
    obtain ⟨fo'', rfl⟩ : ∃ g, fo' = g + 1 := ⟨fo' - 1, by omega⟩
    obtain ⟨s2, e1, e2, e3⟩ := A_end (k := kS) (was := s 101 0) (fl := fl'') (fo := fo'') y3 (by omega) (by rw [z1]; exact nx) (fun y hy => by have := o1 y hy; unfold brk; omega) rfl
    rw [z1] at e3
    obtain ⟨s3, d1, d2, d3⟩ := go53 (fun (x1_31 : Int) (s32 : MS) => bnd (up s32 101 0 x1_31) fun s33 => some (0, s33)) (x := s 101 0) rfl ops FU (C ++ D) s2 (by omega) (by rw [List.length_append]; omega) e3
    have ho4 : only [101] s3 (up s3 101 0 (s 101 0)) := only.up (by decide)
    obtain ⟨g', ⟨⟨b1, b2⟩, b3, b4⟩, ⟨b5, b6⟩, b7, b8, b9, b10⟩ := id d3
    refine Or.inl ⟨D ++ ops, p', c, τ', up s3 101 0 (s 101 0), x1, ⟨x2, x3, x4, x5⟩, ⟨by rw [← z1]; exact sk_sk T n pm', by omega⟩, x7, ⟨?_, ?_, ?_⟩, by rw [List.length_append]; omega, nx⟩
    · rw [hgo, y1, e1]
      exact d1
    · exact (ho2.mono (by decide)).tr (y2.tr (e2.tr (d2.tr (ho4.mono (by decide)))))
    · rw [List.append_assoc] at b1 b2
      exact ⟨g'.of' ho4 (by decide), ⟨⟨by rw [ho4 97 (by decide)]; exact b1, b2.of (ho4 96 (by decide))⟩, by rw [ho4 99 (by decide)]; exact b3, b4.of (ho4 98 (by decide))⟩, ⟨by rw [ho4 100 (by decide)]; exact b5, by rw [up_s]; exact a6⟩, by rw [ho4 47 (by decide)]; exact b7, b8, a9, b10⟩
  · refine Or.inr ⟨kd, pl, τ', up s1 101 0 (s 101 0), x1, x2, x3, ?_, ⟨(ho2.mono (by decide)).tr (x5.1.tr (only.up (by decide))), by rw [up_k _ _ _ _ (by decide)]; exact x5.2.1, by rw [up_k _ _ _ _ (by decide)]; exact x5.2.2.1, by rw [up_row (by decide)]; exact x5.2.2.2⟩, x6⟩
    rw [hgo, x4]
    unfold kS
    rw [hf, m_qSums_L53]
    exact st_f (by rw [x5.2.1, i32_id (by omega) (by omega)]; omega) (st_bnd rfl)
end
