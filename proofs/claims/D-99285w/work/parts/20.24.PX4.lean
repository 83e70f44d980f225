set_option maxRecDepth 100000
/-! LAYER 2: both read a part -/
section
variable {T : Int → Int} {n : Int} {fl : Bool}
theorem within_open {rc : XS → Option RX} {a1 p o : Int} {τ : XS} (hG : xG T n τ p) (hc : bA T n (rn qB T n p) = 40) (ho : τ 7 4 = o) (h6 : 0 ≤ o ∧ o < 6) : x2_within rc a1 τ = xWr rc a1 (ux (ux (ux τ 7 2 (rn qB T n p)) 7 4 (o + 1)) 7 2 (rn qB T n p + 1)) := by
  rw [xWr_eq]
  have e4 : ux τ 7 2 (rn qB T n p) 7 4 = o := by rw [ux_i _ _ _ _ (by decide)]; exact ho
  have op := opens_f (τ := ux τ 7 2 (rn qB T n p)) (pl := rn qB T n p) (by rw [e4]; exact h6)
  rw [e4] at op
  refine st_bind (here_ev hG) (st_t (by rw [hc]) (st_bind (z := (0, 0, ux (ux τ 7 2 (rn qB T n p)) 7 4 (o + 1))) ?_ (st_t rfl (st_bnd ?_))))
  · show x2_opens (ux τ 7 2 (rn qB T n p) 7 2) (ux τ 7 2 (rn qB T n p)) = _
    rw [ux_s]; exact op
  · show xWr rc a1 (ux (ux (ux τ 7 2 (rn qB T n p)) 7 4 (o + 1)) 7 2 (ux (ux τ 7 2 (rn qB T n p)) 7 4 (o + 1) 7 2 + 1)) = _
    rw [ux_i _ _ _ _ (show (2 : Int) ≠ 4 by decide), ux_s]
theorem within_6 {rc : XS → Option RX} {a1 p o : Int} {τ : XS} (hG : xG T n τ p) (hc : bA T n (rn qB T n p) = 40) (ho : τ 7 4 = 6) : ∃ τ', x2_within rc a1 τ = some (1, 0, τ') ∧ xB 4 (rn qB T n p) τ τ' ∧ τ' (-1) = τ (-1) := by
  rw [xWr_eq]
  have e4 : ux τ 7 2 (rn qB T n p) 7 4 = 6 := by rw [ux_i _ _ _ _ (by decide)]; exact ho
  have op := opens_t (τ := ux τ 7 2 (rn qB T n p)) (pl := rn qB T n p) e4
  have hal := (hG.to (sk_b hG)).2.2.2.2.2.1
  refine ⟨ux (ux (ux τ 7 2 (rn qB T n p)) 8 6 4) 8 7 (rn qB T n p), st_bind (here_ev hG) (st_t (by rw [hc]) (st_bind (z := (1, 0, ux (ux (ux τ 7 2 (rn qB T n p)) 8 6 4) 8 7 (rn qB T n p))) ?_ (st_f n_10 rfl))), xB.mk' (ext.rf.u7 (Or.inl rfl)) hal 4 _, by rw [ux_cell (by decide), ux_cell (by decide), ux_cell (by decide)]⟩
  show x2_opens (ux τ 7 2 (rn qB T n p) 7 2) (ux τ 7 2 (rn qB T n p)) = _
  rw [ux_s]; exact op
theorem within_no {rc : XS → Option RX} {a1 p : Int} {τ : XS} (hG : xG T n τ p) (hc : bA T n (rn qB T n p) ≠ 40) : ∃ τ', x2_within rc a1 τ = some (1, 0, τ') ∧ xB 1 (rn qB T n p) τ τ' ∧ τ' (-1) = τ (-1) := by
  rw [xWr_eq]
  have hb := bA_b hG.1 (rn qB T n p)
  have hal := (hG.to (sk_b hG)).2.2.2.2.2.1
  have c40 : ¬ i32 (bA T n (rn qB T n p)) = i32 40 := ne32 (by omega) (by omega) hc
  refine ⟨ux (ux (ux τ 7 2 (rn qB T n p)) 8 6 1) 8 7 (rn qB T n p), st_bind (here_ev hG) (st_f c40 (st_bind (z := (8, ux (ux (ux τ 7 2 (rn qB T n p)) 8 6 1) 8 7 (rn qB T n p))) ?_ (st_gd rfl rfl))), xB.mk' (ext.rf.u7 (Or.inl rfl)) hal 1 _, by rw [ux_cell (by decide), ux_cell (by decide), ux_cell (by decide)]⟩
  show x2_wrong 1 (ux τ 7 2 (rn qB T n p) 7 2) (ux τ 7 2 (rn qB T n p)) = _
  rw [ux_s]; exact wrong_ev _ _ _
theorem has_ctx {a : Int} (τ : XS) (ha : 0 ≤ a ∧ a < 9) : (alw fl a → x0_has (ctx fl) a τ = some (1, τ)) ∧ (¬ alw fl a → x0_has (ctx fl) a τ = some (0, τ)) := by
  have h1 : ∀ a : Fin 9, iand (ishr 31 (a.val : Int)) 1 = if (a.val : Int) < 5 then 1 else 0 := by decide +kernel
  have h2 : ∀ a : Fin 9, iand (ishr 497 (a.val : Int)) 1 = if (a.val : Int) = 0 ∨ 4 ≤ (a.val : Int) then 1 else 0 := by decide +kernel
  have h1 := h1 ⟨a.toNat, by omega⟩
  have h2 := h2 ⟨a.toNat, by omega⟩
  simp only at h1 h2
  rw [Int.toNat_of_nonneg ha.1] at h1 h2
  cases fl with
  | false =>
    unfold alw ctx x0_has
    simp only [Bool.false_eq_true, if_false]
    constructor
    · intro h
      rw [if_pos h.2] at h1
      rw [h1]; exact if_pos rfl
    · intro h
      rw [if_neg (show ¬ a < 5 by omega)] at h1
      rw [h1]; exact if_neg (by decide)
  | true =>
    unfold alw ctx x0_has
    simp only [if_true]
    constructor
    · intro h
      rw [if_pos (show a = 0 ∨ 4 ≤ a by omega)] at h2
      rw [h2]; exact if_pos rfl
    · intro h
      rw [if_neg (show ¬ (a = 0 ∨ 4 ≤ a) by omega)] at h2
      rw [h2]; exact if_neg (by decide)
/-- what a word means, for both -/
theorem word_cl (fl : Bool) (w : List Int) : (0 ≤ fnd w askW 0 → fnd w askW 0 < 9) ∧
    ((fnd w askW 0 ≠ -1 ∧ alw fl (fnd w askW 0)) → wc (tkf fl) w = fnd w askW 0) ∧
    (¬ (fnd w askW 0 ≠ -1 ∧ alw fl (fnd w askW 0)) → (fl = true → fnd w lokW 0 ≠ -1 → wc (tkf fl) w = 9 + fnd w lokW 0 ∧ 0 ≤ fnd w lokW 0 ∧ fnd w lokW 0 < 2) ∧ (¬ (fl = true ∧ fnd w lokW 0 ≠ -1) → (w = wo 83 → wc (tkf fl) w = 11) ∧ (w = wo 84 → wc (tkf fl) w = 12) ∧ (w ≠ wo 83 → w ≠ wo 84 → wc (tkf fl) w = -1))) := by
  by_cases h0 : w = wo 85
  · subst h0; cases fl <;> (unfold alw; decide)
  by_cases h1 : w = wo 86
  · subst h1; cases fl <;> (unfold alw; decide)
  by_cases h2 : w = wo 87
  · subst h2; cases fl <;> (unfold alw; decide)
  by_cases h3 : w = wo 88
  · subst h3; cases fl <;> (unfold alw; decide)
  by_cases h4 : w = wo 89
  · subst h4; cases fl <;> (unfold alw; decide)
  by_cases h5 : w = wo 90
  · subst h5; cases fl <;> (unfold alw; decide)
  by_cases h6 : w = wo 91
  · subst h6; cases fl <;> (unfold alw; decide)
  by_cases h7 : w = wo 92
  · subst h7; cases fl <;> (unfold alw; decide)
  by_cases h8 : w = wo 93
  · subst h8; cases fl <;> (unfold alw; decide)
  by_cases h9 : w = wo 95
  · subst h9; cases fl <;> (unfold alw; decide)
  by_cases h10 : w = wo 83
  · subst h10; cases fl <;> (unfold alw; decide)
  by_cases h11 : w = wo 84
  · subst h11; cases fl <;> (unfold alw; decide)
  have e1 : fnd w askW 0 = -1 := (fnd_no w askW 0 (by decide)).mpr (by
    intro hm
    simp only [askW, List.mem_cons, List.not_mem_nil, or_false] at hm
    rcases hm with q | q | q | q | q | q | q | q | q
    · exact h0 q
    · exact h1 q
    · exact h2 q
    · exact h3 q
    · exact h4 q
    · exact h5 q
    · exact h6 q
    · exact h7 q
    · exact h8 q)
  have e2 : fnd w lokW 0 = -1 := (fnd_no w lokW 0 (by decide)).mpr (by
    intro hm
    simp only [lokW, List.mem_cons, List.not_mem_nil, or_false] at hm
    rcases hm with q | q
    · exact h3 q
    · exact h9 q)
  have e3 : wc (tkf fl) w = -1 := by
    have e4 : wIx (tkf fl) w = -1 := by
      unfold wIx
      rw [if_neg h0, if_neg h1, if_neg h2, if_neg (fun h => h3 h.2), if_neg h4, if_neg h5, if_neg h6, if_neg h7, if_neg h8, if_neg (show ¬ w = wo 94 from h3), if_neg h9]
    unfold wc
    rw [if_neg h10, if_neg h11, e4, if_neg (by omega)]
  rw [e1, e2, e3]
  refine ⟨fun h => by omega, fun h => absurd rfl h.1, fun _ => ⟨fun _ h => absurd rfl h, fun _ => ⟨fun h => absurd h h10, fun h => absurd h h11, fun _ _ => rfl⟩⟩⟩
theorem tkN_pm {pm p lo hi : Int} (h : rn qB T n pm = rn qB T n p) : tkN T n pm lo hi = tkN T n p lo hi := by unfold tkN; rw [h]
theorem tkN_nd {p lo hi : Int} (h : qD (bA T n (rn qB T n p)) = false) : tkN T n p lo hi = (1, rn qB T n p, 0) := by
  unfold tkN
  rw [if_neg (by rw [h]; simp)]
theorem wcA_D {tk q : Int} (h : qD (bA T n q) = true) : wcA tk T n q = -1 := wcA_40 (by rw [qD_t] at h; rw [qL_f]; omega)
/-- one cell of an object more -/
theorem newOb_ev {τ τ0 : XS} (ha : al τ) (he : ext τ0 τ) (t : Nat) (sl : Int) (hs : 0 ≤ sl) : ∃ τ1, nwx τ t 0 sl (dfl t) = τ1 ∧ al τ1 ∧ ext τ0 τ1 ∧ τ1 (τ (-1) 0) (-1) = t ∧ τ1 (-1) 0 = τ (-1) 0 + 1 ∧ τ1 (-1) 1 = τ (-1) 1 + sl ∧ (∀ c, c ≠ τ (-1) 0 → c ≠ -1 → τ1 c = τ c) ∧ ext τ τ1 := by
  obtain ⟨τ1, n1, n2, n3, n4, n5, n6, n7, n8, n9⟩ := nwx_all ha t 0 (sl := sl) (dfl t) hs
  exact ⟨τ1, n1, n2, he.tr n3, n4, n7, n8, n9, n3⟩
/-- a number by itself, for the system -/
theorem x_num {rc : XS → Option RX} {p : Int} {τ : XS} (hG : xG T n τ p) (hd : qD (bA T n (rn qB T n p)) = true) :
    ((tkN T n p 0 9999).1 = 0 → ∃ τ', x2_atom_B rc τ = some (0, τ (-1) 0, τ') ∧ ext τ τ' ∧ xG T n τ' (tkN T n p 0 9999).2.2 ∧ τ' 7 4 = τ 7 4 ∧ (τ' (τ (-1) 0) (-1) = 16 ∧ τ' (τ (-1) 0) 0 = (tkN T n p 0 9999).2.1) ∧ τ' (-1) 0 = τ (-1) 0 + 1 ∧ τ' (-1) 1 = τ (-1) 1 + 1 ∧ (0 ≤ (tkN T n p 0 9999).2.1 ∧ (tkN T n p 0 9999).2.1 ≤ 9999)) ∧
    ((tkN T n p 0 9999).1 ≠ 0 → ∃ τ', x2_atom_B rc τ = some (1, 0, τ') ∧ xB (tkN T n p 0 9999).1 (tkN T n p 0 9999).2.1 τ τ' ∧ τ' (-1) 0 = τ (-1) 0 + 1 ∧ τ' (-1) 1 = τ (-1) 1 + 1) := by
  have hb := bA_b hG.1 (rn qB T n p)
  have hsk := sk_b hG
  have hG1 := hG.to hsk
  have hh := here_ev hG1
  rw [sk_sk, ux_ux] at hh
  have hal1 := hG1.2.2.2.2.2.1
  have hN := hal1.1
  have hS := hal1.2.1
  have e1 : ux τ 7 2 (rn qB T n p) (-1) = τ (-1) := ux_cell (by decide)
  obtain ⟨τ1, n1, n2, n3, n4, n5, n6, n7, n8⟩ := newOb_ev (τ0 := τ) hal1 (ext.rf.u7 (Or.inl rfl)) 16 1 (by omega)
  rw [e1] at n4 n5 n6 n7 hN hS
  have n7' : τ1 7 = ux τ 7 2 (rn qB T n p) 7 := n7 7 (by omega) (by omega)
  have hG2 : xG T n τ1 (rn qB T n p) := hG1.of n8 n2 (by rw [n7', ux_s]) hsk
  have hnum := number_ev hG2 (lo := 0) (hi := 9999) (by omega) (by omega)
  have htk : tkN T n (rn qB T n p) 0 9999 = tkN T n p 0 9999 := tkN_pm (sk_sk T n p)
  rw [htk] at hnum
  have hdl := isDigit_ev (ux τ 7 2 (rn qB T n p)) hb
  rw [hd, b2i_1] at hdl
  have c40 : ¬ i32 (bA T n (rn qB T n p)) = i32 40 := by rw [qD_t] at hd; exact ne32 (by omega) (by omega) (by omega)
  have nn : 0 ≤ ux τ 7 2 (rn qB T n p) (-1) 0 ∧ 0 ≤ ux τ 7 2 (rn qB T n p) (-1) 1 := by rw [e1]; omega
  have hX : x2_atom_B rc τ = Option.bind (x2_number 0 9999 τ1) (fun z52 => if z52.1 = 0 then Option.bind (x19_init true (τ (-1) 0) (i32 z52.2.1) z52.2.2) (fun z54 => some (0, τ (-1) 0, z54.2)) else some (1, 0, z52.2.2)) := by
    unfold x2_atom_B
    refine st_bind (here_ev hG) (st_f c40 (st_bind hh (st_bind hdl (st_f n10 (st_gd nn (st_bnd ?_))))))
    rw [show nwx ((1, ux τ 7 2 (rn qB T n p)) : Int × XS).2 16 0 1 (dfl 16) = τ1 from n1]
    rw [show ((1, ux τ 7 2 (rn qB T n p)) : Int × XS).2 (-1) = τ (-1) from e1]
  rw [hX]
  constructor
  · intro h0
    obtain ⟨τ2, m1, m2, m3, m4, m5⟩ := hnum.1 h0
    have e2 : τ2 (τ (-1) 0) = τ1 (τ (-1) 0) := m2.2.2.1 _ (by omega) (by omega) (by omega) (by rw [n5]; omega)
    have hv : 0 ≤ (tkN T n p 0 9999).2.1 ∧ (tkN T n p 0 9999).2.1 ≤ 9999 := by
      revert h0
      unfold tkN
      split
      · split
        · split
          · intro _; assumption
          · intro h; exact absurd h (by dsimp only; omega)
        · intro h; exact absurd h (by dsimp only; omega)
      · intro h; exact absurd h (by dsimp only; omega)
    have tt := tgf (τ := τ2) (t := 16) (new_fre hN) (by rw [e2]; exact n4)
    have hi : x19_init true (τ (-1) 0) (i32 (tkN T n p 0 9999).2.1) τ2 = some (0, ux τ2 (τ (-1) 0) 0 (tkN T n p 0 9999).2.1) := by
      unfold x19_init x16_init
      simp (disch := omega) only [gd_t, gd_T, gd_ok, not_false_eq_true, eq_self, bnd_r, bind_s, ite_t, ite_n, ite_T, ite_F, i32_id, tt]
    have hal2 := m3.2.2.2.2.2.1
    have he : ext τ (ux τ2 (τ (-1) 0) 0 (tkN T n p 0 9999).2.1) := (n3.tr m2).un (Int.le_refl _) hN
    refine ⟨ux τ2 (τ (-1) 0) 0 (tkN T n p 0 9999).2.1, st_bind m1 (st_t rfl (st_bind hi rfl)), he, hG.of he (hal2.u (by omega) (by omega)) (by rw [ux_cell (by omega)]; exact m3.2.2.2.1) m3.2.2.2.2.1, ?_, ⟨by rw [ux_i _ _ _ _ (by decide), e2]; exact n4, by rw [ux_s]⟩, ?_, ?_, hv⟩
    · rw [ux_cell (by omega), m4, n7', ux_i _ _ _ _ (by decide)]
    · rw [ux_cell (by omega), m5, n5]
    · rw [ux_cell (by omega), m5, n6]
  · intro h0
    obtain ⟨τ2, m1, m2, m3⟩ := hnum.2 h0
    exact ⟨τ2, st_bind m1 (st_f n_10 rfl), m2.after n3, by rw [m3, n5], by rw [m3, n6]⟩
theorem tkN_ok {p : Int} (h : (tkN T n p 0 9999).1 = 0) : rn qB T n p < (tkN T n p 0 9999).2.2 := by
  revert h
  unfold tkN
  split
  · rename_i c
    split
    · split
      · intro _; exact rn_lt qD_1 c.1
      · intro h; exact absurd h (by dsimp only; omega)
    · intro h; exact absurd h (by dsimp only; omega)
  · intro h; exact absurd h (by dsimp only; omega)
theorem tkN_kd {p lo hi : Int} (hv : (tkN T n p lo hi).1 ≠ 0) : 1 ≤ (tkN T n p lo hi).1 ∧ (tkN T n p lo hi).1 ≤ 5 := by
  revert hv
  unfold tkN
  split
  · split
    · split
      · intro h; exact absurd rfl h
      · intro _; dsimp only; omega
    · intro _; dsimp only; omega
  · intro _; dsimp only; omega
end
