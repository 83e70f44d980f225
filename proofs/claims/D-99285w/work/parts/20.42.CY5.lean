set_option maxRecDepth 100000
/-! LAYER 2: the reference keeps the codes of a law -/
section
variable {T : Int → Int} {n p : Int} {τb τ τ' : XS} {s s' s0 : MS} {c : Int}
theorem copy91 (K : Int → MS → Option (Int × MS)) {k m : Int} (hm : m ≤ 1700) : ∀ (d fuel : Nat) (i : Int) (s : MS), s 97 0 = m → 0 ≤ i → i + d = m → d < fuel → 0 ≤ s 44 0 → s 44 0 + d ≤ 1600 → ∃ s', m_codesTold_L91 K fuel k i s = K k s' ∧ only [43, 44] s s' ∧ s' 44 0 = s 44 0 + d ∧ (∀ j : Int, j < s 44 0 ∨ s 44 0 + d ≤ j → s' 43 j = s 43 j) ∧ ∀ j : Int, i ≤ j → j < m → s' 43 (s 44 0 + (j - i)) = s 96 j := by
  intro d
  induction d with
  | zero =>
    intro fuel i s h97 hi hd hf h0 h1
    obtain ⟨f, rfl⟩ : ∃ f, fuel = f + 1 := ⟨fuel - 1, by omega⟩
    refine ⟨s, ?_, only.rf, by omega, fun j _ => rfl, fun j j0 j1 => by omega⟩
    rw [m_codesTold_L91]
    refine st_t ?_ rfl
    rw [h97, i32_id (by omega) (by omega), i32_id (by omega) (by omega)]
    omega
  | succ d ih =>
    intro fuel i s h97 hi hd hf h0 h1
    obtain ⟨f, rfl⟩ : ∃ f, fuel = f + 1 := ⟨fuel - 1, by omega⟩
    obtain ⟨s1, e1⟩ : ∃ s1, up (up s 43 (s 44 0) (s 96 i)) 44 0 (s 44 0 + 1) = s1 := ⟨_, rfl⟩
    have o1 : only [43, 44] s s1 := by rw [← e1]; exact (only.up (by decide)).tr (only.up (by decide))
    have g44 : s1 44 0 = s 44 0 + 1 := by rw [← e1, up_s]
    have g43 : ∀ j, s1 43 j = if j = s 44 0 then s 96 i else s 43 j := fun j => by
      rw [← e1, up_row (by decide)]
      by_cases q : j = s 44 0
      · rw [if_pos q, q, up_s]
      · rw [if_neg q, up_i _ _ _ _ q]
    have g96 : s1 96 = s 96 := o1 96 (by decide)
    obtain ⟨s', a1, a2, a3, a4, a5⟩ := ih f (i + 1) s1 (by rw [o1 97 (by decide)]; exact h97) (by omega) (by omega) (by omega) (by omega) (by omega)
    refine ⟨s', ?_, o1.tr a2, by omega, fun j hj => ?_, fun j j0 j1 => ?_⟩
    · rw [m_codesTold_L91]
      refine st_f ?_ (st_gd ?_ (st_gd ?_ (st_bnd (st_bnd (st_bnd ?_)))))
      · rw [h97, i32_id (by omega) (by omega), i32_id (by omega) (by omega)]
        omega
      · unfold ok; rw [i32_id (by omega) (by omega)]; omega
      · unfold ok; rw [i32_id (by omega) (by omega)]; omega
      · rw [i32_id (a := s 44 0) (by omega) (by omega), i32_id (a := i) (by omega) (by omega), up_row (by decide), e1]
        exact a1
    · rw [a4 j (by omega), g43, if_neg (by omega)]
    · by_cases q : j = i
      · rw [a4 _ (by omega), g43, if_pos (by omega), q]
      · have := a5 j (by omega) j1
        rw [g44, g96] at this
        rw [← this]
        congr 1
        omega
/-- the codes are put aside -/
noncomputable def cdPut (k : Int) (s : MS) : Option (Int × MS) :=
  gd (ok 6 k) <|
  bnd (up s 41 (i32 k) (s 44 0)) fun s15 =>
  bnd 0 fun x3_16 =>
  m_codesTold_L91
    (fun (x1_28 : Int) (s29 : MS) =>
      gd (ok 6 x1_28) <|
      bnd (up s29 42 (i32 x1_28) (s29 44 0)) fun s31 =>
      some (0, s31))
    FU k x3_16 s15
theorem cdPut_ev {k tk o : Int} (hk : 0 ≤ k ∧ k < 3) {C : List Int} (hQ : mQ T n tk s p C [] 0 o) (h44 : 0 ≤ s 44 0 ∧ s 44 0 + C.length ≤ 1600) :
    ∃ s', cdPut k s = some (0, s') ∧ only [41, 42, 43, 44] s s' ∧ stk s s' ∧ cdM s' k C ∧ s' 44 0 = s 44 0 + C.length ∧ (∀ k' : Int, k' ≠ k → s' 41 k' = s 41 k') ∧ ∀ (k' : Int) (cs : List Int), k' ≠ k → cdM s k' cs → cdM s' k' cs := by
  have h97 : s 97 0 = C.length := hQ.2.1.1.1
  have hR := hQ.2.1.1.2
  have ek : i32 k = k := i32_id (by omega) (by omega)
  have ok6 : ok 6 k := by unfold ok; rw [ek]; omega
  obtain ⟨s1, e1⟩ : ∃ s1, up s 41 k (s 44 0) = s1 := ⟨_, rfl⟩
  have o1 : only [41] s s1 := by rw [← e1]; exact only.up (by decide)
  have e44 : s1 44 = s 44 := o1 44 (by decide)
  have e96 : s1 96 = s 96 := o1 96 (by decide)
  have e43 : s1 43 = s 43 := o1 43 (by decide)
  obtain ⟨s2, a1, a2, a3, a4, a5⟩ := copy91 (fun (x1_28 : Int) (s29 : MS) => gd (ok 6 x1_28) <| bnd (up s29 42 (i32 x1_28) (s29 44 0)) fun s31 => some (0, s31)) (k := k) (m := C.length) (by omega) C.length FU 0 s1 (by rw [o1 97 (by decide)]; exact h97) (by omega) (by omega) (by have := FU_ge; omega) (by rw [e44]; omega) (by rw [e44]; omega)
  rw [e44] at a3 a4 a5
  rw [e43] at a4
  rw [e96] at a5
  obtain ⟨s3, e3⟩ : ∃ s3, up s2 42 k (s2 44 0) = s3 := ⟨_, rfl⟩
  have o3 : only [42] s2 s3 := by rw [← e3]; exact only.up (by decide)
  have st1 : stk s s1 := by rw [← e1]; exact stk.wr (Or.inr (Or.inr (Or.inr (Or.inr (Or.inl ⟨Or.inl rfl, by omega⟩)))))
  have st3 : stk s2 s3 := by rw [← e3]; exact stk.wr (Or.inr (Or.inr (Or.inr (Or.inr (Or.inl ⟨Or.inr rfl, by omega⟩)))))
  have st2 : stk s1 s2 := by
    refine ⟨a2.mono (by decide), fun i _ => ?_, fun i _ => ?_, fun i _ => ?_, fun i _ => ?_, fun i hi => ?_⟩
    · rw [a2 35 (by decide), a2 36 (by decide)]; exact ⟨rfl, rfl⟩
    · rw [a2 37 (by decide)]
    · rw [a2 39 (by decide)]
    · rw [a2 41 (by decide), a2 42 (by decide)]; exact ⟨rfl, rfl⟩
    · rw [a4 i (by omega), e43]
  have f41 : ∀ j, s3 41 j = if j = k then s 44 0 else s 41 j := fun j => by
    rw [o3 41 (by decide), a2 41 (by decide), ← e1]
    by_cases q : j = k
    · rw [if_pos q, q, up_s]
    · rw [if_neg q, up_i _ _ _ _ q]
  have f42 : ∀ j, s3 42 j = if j = k then s 44 0 + C.length else s 42 j := fun j => by
    rw [← e3]
    by_cases q : j = k
    · rw [if_pos q, q, up_s, a3]
    · rw [if_neg q, up_i _ _ _ _ q, a2 42 (by decide), o1 42 (by decide)]
  have f43 : s3 43 = s2 43 := o3 43 (by decide)
  have f44 : s3 44 0 = s 44 0 + C.length := by rw [o3 44 (by decide), a3]
  refine ⟨s3, ?_, ((o1.mono (by decide)).tr (a2.mono (by decide))).tr (o3.mono (by decide)), (st1.tr st2).tr st3, ⟨⟨?_, ?_, ?_⟩, ?_⟩, f44, fun k' h => by rw [f41, if_neg h], ?_⟩
  · unfold cdPut
    refine st_gd ok6 (st_bnd (st_bnd ?_))
    rw [ek, e1]
    refine a1.trans (st_gd ok6 (st_bnd ?_))
    rw [ek, e3]
  · rw [f41, if_pos rfl]; omega
  · rw [f41, f42, if_pos rfl, if_pos rfl]
  · rw [f42, if_pos rfl, f44]; omega
  · intro i x hi
    have hl := (List.getElem?_eq_some_iff.mp hi).1
    rw [f41, if_pos rfl, f43, show s 44 0 + (i : Int) = s 44 0 + ((i : Int) - 0) by omega, a5 i (by omega) (by omega)]
    exact hR i x hi
  · intro k' cs h ⟨⟨h1, h2, h3⟩, h4⟩
    refine ⟨⟨?_, ?_, ?_⟩, fun i x hi => ?_⟩
    · rw [f41, if_neg h]; exact h1
    · rw [f41, f42, if_neg h, if_neg h]; exact h2
    · rw [f42, if_neg h, f44]; omega
    · have hl := (List.getElem?_eq_some_iff.mp hi).1
      rw [f41, if_neg h, f43, a4 _ (by omega)]
      exact h4 i x hi
end
