set_option maxRecDepth 100000
/-! LAYER 2: a law's statement of both -/
section
variable {T : Int → Int} {n p : Int} {τb τ τ' : XS} {s s' s0 : MS} {c : Int}
/-- the reference ahead of a law's text -/
def lw0 (s : MS) : MS := up (up (up (up (up s 47 0 0) 97 0 0) 99 0 0) 100 0 0) 101 0 0
theorem lw0_o (s : MS) : only [47, 97, 99, 100, 101] s (lw0 s) := ((((only.up (by decide)).tr (only.up (by decide))).tr (only.up (by decide))).tr (only.up (by decide))).tr (only.up (by decide))
theorem hR_nil {k : Nat} : hR s k [] := fun i x h => by simp at h
theorem lw0_Q (hM : mG T n s p) : mQ T n (tkf false) (lw0 s) p [] [] 0 0 := by
  refine ⟨hM.of' (lw0_o s) (by decide), ⟨⟨?_, hR_nil⟩, ?_, hR_nil⟩, ⟨?_, ?_⟩, ?_, by decide, by simp, fun y hy => by simp at hy⟩
  · unfold lw0; rw [up_row (by decide), up_row (by decide), up_row (by decide), up_s]; rfl
  · unfold lw0; rw [up_row (by decide), up_row (by decide), up_s]; rfl
  · unfold lw0; rw [up_row (by decide), up_s]
  · unfold lw0; rw [up_s]
  · unfold lw0; rw [up_row (by decide), up_row (by decide), up_row (by decide), up_row (by decide), up_s]; rfl
theorem codes_again {k pl : Int} (hk : 0 ≤ k ∧ k < 3) (h5 : s 5 0 = 0) (h41 : 0 ≤ s 41 k ∧ s 41 k ≤ 1600) : m_codesTold k pl s = some (0, up (up s 5 0 5) 6 0 pl) := by
  have ek : i32 k = k := i32_id (by omega) (by omega)
  have ok6 : ok 6 k := by unfold ok; rw [ek]; omega
  unfold m_codesTold
  refine st_bnd (st_t (by rw [h5]; decide) (st_gd ok6 (st_f ?_ (st_bind (m_fail_ev h5) (st_f ?_ rfl)))))
  · rw [ek, i32_id (by omega) (by omega), show i32 (-1) = -1 from by decide]; omega
  · show ¬ i32 (up (up s 5 0 5) 6 0 pl 5 0) = 0
    rw [up_row (by decide), up_s]
    decide
theorem codes_new {k pl : Int} (hk : 0 ≤ k ∧ k < 3) (h5 : s 5 0 = 0) (h41 : s 41 k = -1) {z : Int} (he : (if k = 0 then m_qTest (lw0 s) else m_qSums (lw0 s)) = some (z, s')) : (i32 (s' 5 0) = 0 → m_codesTold k pl s = cdPut k s') ∧ (¬ i32 (s' 5 0) = 0 → m_codesTold k pl s = some (0, s')) := by
  have ek : i32 k = k := i32_id (by omega) (by omega)
  have ok6 : ok 6 k := by unfold ok; rw [ek]; omega
  have z5 : i32 (s 5 0) = 0 := by rw [h5]; decide
  have e41 : i32 (s 41 (i32 k)) = i32 (-1) := by rw [ek, h41]
  by_cases q : k = 0
  · rw [if_pos q] at he
    have q' : i32 k = 0 := by rw [ek]; exact q
    constructor
    · intro h
      unfold m_codesTold
      exact st_bnd (st_t z5 (st_gd ok6 (st_t e41 (st_t z5 (st_bnd (st_bnd (st_bnd (st_bnd (st_bnd (st_bnd (st_t q' (st_bind he (st_t h rfl)))))))))))))
    · intro h
      unfold m_codesTold
      exact st_bnd (st_t z5 (st_gd ok6 (st_t e41 (st_t z5 (st_bnd (st_bnd (st_bnd (st_bnd (st_bnd (st_bnd (st_t q' (st_bind he (st_f h rfl)))))))))))))
  · rw [if_neg q] at he
    have q' : ¬ i32 k = 0 := by rw [ek]; exact q
    constructor
    · intro h
      unfold m_codesTold
      exact st_bnd (st_t z5 (st_gd ok6 (st_t e41 (st_t z5 (st_bnd (st_bnd (st_bnd (st_bnd (st_bnd (st_bnd (st_f q' (st_bind he (st_t h rfl)))))))))))))
    · intro h
      unfold m_codesTold
      exact st_bnd (st_t z5 (st_gd ok6 (st_t e41 (st_t z5 (st_bnd (st_bnd (st_bnd (st_bnd (st_bnd (st_bnd (st_f q' (st_bind he (st_f h rfl)))))))))))))
theorem lawT.wr2 {es fs : List Int} (h : lawT τ s c) (hc : cyS τ c es fs) {i x : Int} (hi : 0 ≤ i ∧ i ≠ 4 ∧ i ≠ 5 ∧ i ≠ 6) (h41 : s' 41 0 = s 41 0) (hm : ∀ cs, cdM s 0 cs → cdM s' 0 cs) : lawT (ux τ c i x) s' c := by
  obtain ⟨w1, w2⟩ := hc.wr (x := x) (i := i) (by omega)
  unfold lawT
  rw [ux_i _ _ _ _ (show (6 : Int) ≠ i by omega), h41]
  rcases h with h | ⟨cs, h1, h2⟩
  · exact Or.inl h
  · exact Or.inr ⟨cs, XT_kept (fun y hy => (w2 y hy).1) (fun y hy => (w2 y hy).2) _ _ _ h1, hm _ h2⟩
theorem lawV.wr2 {es fs : List Int} {k : Int} (h : lawV τ s c k) (hc : cyS τ c es fs) {i x : Int} (hi : 0 ≤ i ∧ i ≠ 4 ∧ i ≠ 5 ∧ i ≠ 6 + k) (h41 : s' 41 k = s 41 k) (hm : ∀ cs, cdM s k cs → cdM s' k cs) : lawV (ux τ c i x) s' c k := by
  obtain ⟨w1, w2⟩ := hc.wr (x := x) (i := i) (by omega)
  unfold lawV
  rw [ux_i _ _ _ _ (show (6 + k : Int) ≠ i by omega), h41]
  rcases h with h | ⟨cs, h1, h2⟩
  · exact Or.inl h
  · exact Or.inr ⟨cs, XV_more (fun y hy => (w2 y hy).2) _ _ _ (XV_kept (fun y hy => (w2 y hy).1) _ _ _ h1), hm _ h2⟩
/-- cells behind the country's are not the country's -/
theorem cyn_new {es fs : List Int} (ha : al τ) (hc : cyS τ c es fs) (hk : kps τ τ') {i x y : Int} (hi : 0 ≤ i ∧ i ≠ 4 ∧ i ≠ 5) (hy : rg (τ (-1) 0) (τ' (-1) 0) y) : ux τ' c i x y = τ' y ∧ cyn (ux τ' c i x) c y := by
  have hc' := hc.kp ha hk
  have t := hc.tags
  have hN := ha.1
  unfold rg at hy
  have b1 := tag_lt ha t.1 (by decide)
  have b2 := tag_lt ha t.2.1 (by decide)
  have b3 := tag_lt ha t.2.2.1 (by decide)
  have b4 := tag_lt ha t.2.2.2.1 (by decide)
  have b5 := tag_lt ha t.2.2.2.2 (by decide)
  have ec := hk.2 c (new_fre hc.1.1) b1
  have e4 := hk.2 (τ c 4) (new_fre hc.2.2.1.1.1.1) b2
  have e5 := hk.2 (τ c 5) (new_fre hc.2.2.2.1.1.1) b4
  refine (hc'.wr (x := x) hi).2 y ?_
  unfold cyn
  rw [ec, e4, e5]
  omega
end
