set_option maxRecDepth 100000
/-! LAYER 2: both read a part: words -/
noncomputable def xJ (rc : XS → Option RX) (x1_12 : Int) (s13 : XS) : Option RX :=
          bnd (fun (x1_14 : Int) (w15 : Int) (s16 : XS) =>
              if i32 w15 = i32 (-1) then
                gd (tg true s16 x1_14 = 22) <|
                Option.bind (j6_equals true x1_14 (s16 (-1) 134) s16) fun z18 =>
                bnd (fun (x1_20 : Int) (s21 : XS) =>
                    gd (tg true s21 x1_20 = 22) <|
                    Option.bind (j6_equals true x1_20 (s21 (-1) 134) s21) fun z22 =>
                    bnd (fun (w24 : Int) (s25 : XS) =>
                        Option.bind (x2_within rc w24 s25) fun z26 =>
                        if z26.1 = 0 then
                        some (0, z26.2.1, z26.2.2)
                        else some (1, 0, z26.2.2)) fun j28 =>
                    if i32 z22.1 = 0 then
                      j28 2 z22.2
                    else
                      j28 1 z22.2) fun j30 =>
                if i32 z18.1 = 0 then
                  gd (tg true z18.2 x1_14 = 22) <|
                  Option.bind (j6_equals true x1_14 (z18.2 (-1) 135) z18.2) fun z32 =>
                  if i32 z32.1 = 0 then
                    Option.bind (x2_wrong 1 (z32.2 7 3) z32.2) fun z35 =>
                    gd (z35.1 = 8) <|
                    some (1, 0, z35.2)
                  else
                    j30 x1_14 z32.2
                else
                  j30 x1_14 z18.2
              else
                Option.bind (x2_looked rc w15 s16) fun z37 =>
                if z37.1 = 0 then
                some (0, z37.2.1, z37.2.2)
                else some (1, 0, z37.2.2)) fun j39 =>
          if i32 (s13 7 5) = i32 497 then
            gd (¬ (s13 (-1) 102) = -1) <|
            Option.bind (x0_find x1_12 (s13 (-1) 102) s13) fun z42 =>
            j39 x1_12 z42.1 z42.2
          else
            j39 x1_12 (-1) s13
section
variable {T : Int → Int} {n : Int} {fl : Bool}
/-- the system, at a word that is a part -/
theorem x_part {rc : XS → Option RX} {p : Int} {τ : XS} (hG : xG T n τ p) (hcx : τ 7 5 = ctx fl) (c1 : qL (bA T n (rn qB T n p)) = true) (c2 : pd T n (rn qB T n p) = false) (ha : fnd (wrd T n (rn qB T n p)) askW 0 ≠ -1 ∧ alw fl (fnd (wrd T n (rn qB T n p)) askW 0)) :
    ∃ c τ', x2_atom_B rc τ = some (0, c, τ') ∧ ext τ τ' ∧ xG T n τ' (rn qL T n (rn qB T n p)) ∧ τ' 7 4 = τ 7 4 ∧ (τ (-1) 0 ≤ c ∧ c < τ' (-1) 0) ∧ (τ' c (-1) = 17 ∧ τ' c 0 = fnd (wrd T n (rn qB T n p)) askW 0) ∧ rmo 4 (5 + 2 * (rn qL T n (rn qB T n p) - rn qB T n p)) τ τ' := by
  have hb := bA_b hG.1 (rn qB T n p)
  have hsk := sk_b hG
  have hG1 := hG.to hsk
  have hh := here_ev hG1
  rw [sk_sk, ux_ux] at hh
  have hdl := isDigit_ev (ux τ 7 2 (rn qB T n p)) hb
  have hnd : qD (bA T n (rn qB T n p)) = false := by rw [qL_t] at c1; rw [qD_f]; omega
  rw [hnd, b2i_0] at hdl
  have c40 : ¬ i32 (bA T n (rn qB T n p)) = i32 40 := by rw [qL_t] at c1; exact ne32 (by omega) (by omega) (by omega)
  obtain ⟨c, τ1, w1, w2, w3, w4, w5, w6, w7, w8⟩ := word_ev hG1 (by rw [sk_sk]; exact c1) (by rw [sk_sk]; exact c2)
  rw [sk_sk] at w2 w5 w6 w8
  have e0 : ux τ 7 2 (rn qB T n p) (-1) = τ (-1) := ux_cell (by decide)
  have hN := hG.2.2.2.2.2.1.1
  have hask := w5.2.2.2.2.2.2.2.2.1
  rw [e0] at w3
  have hf := find_ev w2 (by omega) hask
  have hne := fre_ne hask.1.1
  have hfb := fnd_b (wrd T n (rn qB T n p)) askW 0 (by omega)
  have hal : askW.length = 9 := by decide
  have hcl := (word_cl fl (wrd T n (rn qB T n p))).1
  have hal1 := w5.2.2.2.2.2.1
  have hN1 := hal1.1
  have hS1 := hal1.2.1
  obtain ⟨τ2, n1, n2, n3, n4, n5, n6, n7, n8⟩ := newOb_ev (τ0 := τ) hal1 ((ext.rf.u7 (Or.inl rfl)).tr w4) 17 1 (by omega)
  generalize ha' : fnd (wrd T n (rn qB T n p)) askW 0 = a at *
  have hcx1 : τ1 7 5 = ctx fl := ctx_ext w4 (by rw [ux_i _ _ _ _ (by decide)]; exact hcx)
  have hhas := (has_ctx (fl := fl) τ1 (a := a) (by omega)).1 ha.2
  rw [← hcx1] at hhas
  have tt := tgf (τ := τ2) (t := 17) (new_fre hN1) n4
  have hi : x20_init true (τ1 (-1) 0) a τ2 = some (0, ux τ2 (τ1 (-1) 0) 0 a) := by
    unfold x20_init x16_init
    simp (disch := omega) only [gd_t, gd_T, gd_ok, not_false_eq_true, eq_self, bnd_r, bind_s, ite_t, ite_n, ite_T, ite_F, i32_id, tt]
  have hNle : τ (-1) 0 ≤ τ1 (-1) 0 := by have := w4.1.1; rw [e0] at this; exact this
  have he : ext τ (ux τ2 (τ1 (-1) 0) 0 a) := n3.un hNle hN1
  have n7' : τ2 7 = τ1 7 := n7 7 (by omega) (by omega)
  have e7 : ux τ2 (τ1 (-1) 0) 0 a 7 = τ1 7 := by rw [ux_cell (by omega), n7']
  refine ⟨τ1 (-1) 0, ux τ2 (τ1 (-1) 0) 0 a, ?_, he, hG.of he (n2.u (by omega) (by omega)) (by rw [e7]; exact w5.2.2.2.1) w5.2.2.2.2.1, by rw [e7, w7, ux_i _ _ _ _ (by decide)], ⟨hNle, by rw [ux_cell (by omega), n5]; omega⟩, ⟨by rw [ux_i _ _ _ _ (by decide)]; exact n4, by rw [ux_s]⟩, ?_⟩
  · unfold x2_atom_B
    have nn : 0 ≤ τ1 (-1) 0 ∧ 0 ≤ τ1 (-1) 1 := by omega
    have nm : ¬ i32 a = i32 (-1) := ne32 (by omega) (by omega) ha.1
    refine st_bind (here_ev hG) (st_f c40 (st_bind hh (st_bind hdl (st_t i32_0 (st_bind w1 (st_t rfl (st_bnd (st_gd hne (st_bind hf (st_bnd (st_bnd (st_f nm (st_bind hhas (st_f n10 (st_gd nn (st_bnd ?_))))))))))))))))
    rw [show nwx ((1, τ1) : Int × XS).2 17 0 1 (dfl 17) = τ2 from n1]
    exact st_bind hi rfl
  · unfold rmo at *
    rw [ux_cell (by omega), n5, n6]
    rw [e0] at w8
    omega
/-- the system, at another word -/
theorem x_oth {rc : XS → Option RX} {p : Int} {τ : XS} (hG : xG T n τ p) (hcx : τ 7 5 = ctx fl) (c1 : qL (bA T n (rn qB T n p)) = true) (c2 : pd T n (rn qB T n p) = false) (ha : ¬ (fnd (wrd T n (rn qB T n p)) askW 0 ≠ -1 ∧ alw fl (fnd (wrd T n (rn qB T n p)) askW 0))) :
    ∃ c τ1, x2_atom_B rc τ = xJ rc c τ1 ∧ strX τ1 c (wrd T n (rn qB T n p)) ∧ τ (-1) 0 ≤ c ∧ ext τ τ1 ∧ xG T n τ1 (rn qL T n (rn qB T n p)) ∧ τ1 7 3 = rn qB T n p ∧ τ1 7 4 = τ 7 4 ∧ τ1 7 5 = ctx fl ∧ rmo 3 (4 + 2 * (rn qL T n (rn qB T n p) - rn qB T n p)) τ τ1 := by
  have hb := bA_b hG.1 (rn qB T n p)
  have hsk := sk_b hG
  have hG1 := hG.to hsk
  have hh := here_ev hG1
  rw [sk_sk, ux_ux] at hh
  have hdl := isDigit_ev (ux τ 7 2 (rn qB T n p)) hb
  have hnd : qD (bA T n (rn qB T n p)) = false := by rw [qL_t] at c1; rw [qD_f]; omega
  rw [hnd, b2i_0] at hdl
  have c40 : ¬ i32 (bA T n (rn qB T n p)) = i32 40 := by rw [qL_t] at c1; exact ne32 (by omega) (by omega) (by omega)
  obtain ⟨c, τ1, w1, w2, w3, w4, w5, w6, w7, w8⟩ := word_ev hG1 (by rw [sk_sk]; exact c1) (by rw [sk_sk]; exact c2)
  rw [sk_sk] at w2 w5 w6 w8
  have e0 : ux τ 7 2 (rn qB T n p) (-1) = τ (-1) := ux_cell (by decide)
  have hN := hG.2.2.2.2.2.1.1
  have hask := w5.2.2.2.2.2.2.2.2.1
  rw [e0] at w3
  have hf := find_ev w2 (by omega) hask
  have hne := fre_ne hask.1.1
  have hfb := fnd_b (wrd T n (rn qB T n p)) askW 0 (by omega)
  have hal : askW.length = 9 := by decide
  have hcl := (word_cl fl (wrd T n (rn qB T n p))).1
  have hcx1 : τ1 7 5 = ctx fl := ctx_ext w4 (by rw [ux_i _ _ _ _ (by decide)]; exact hcx)
  refine ⟨c, τ1, ?_, w2, w3, (ext.rf.u7 (Or.inl rfl)).tr w4, w5, w6, by rw [w7, ux_i _ _ _ _ (by decide)], hcx1, ?_⟩
  · unfold x2_atom_B
    refine st_bind (here_ev hG) (st_f c40 (st_bind hh (st_bind hdl (st_t i32_0 (st_bind w1 (st_t rfl (st_bnd (st_gd hne (st_bind hf (st_bnd (st_bnd ?_)))))))))))
    by_cases hm : fnd (wrd T n (rn qB T n p)) askW 0 = -1
    · rw [hm]
      exact st_t rfl rfl
    · have hna : ¬ alw fl (fnd (wrd T n (rn qB T n p)) askW 0) := fun h => ha ⟨hm, h⟩
      have hhas := (has_ctx (fl := fl) τ1 (a := fnd (wrd T n (rn qB T n p)) askW 0) (by omega)).2 hna
      rw [← hcx1] at hhas
      have nm : ¬ i32 (fnd (wrd T n (rn qB T n p)) askW 0) = i32 (-1) := ne32 (by omega) (by omega) hm
      exact st_f nm (st_bind hhas (st_t i32_0 rfl))
  · unfold rmo at *
    rw [e0] at w8
    exact w8
theorem ctx_497 : (fl = true → i32 (ctx fl) = i32 497) ∧ (¬ fl = true → ¬ i32 (ctx fl) = i32 497) := by
  cases fl
  · exact ⟨(fun h => by cases h), (fun _ => by decide)⟩
  · exact ⟨fun _ => rfl, fun h => absurd rfl h⟩
theorem xJ_of {rc : XS → Option RX} {c p : Int} {τ1 : XS} {w : List Int} (hw : strX τ1 c w) (hc : 0 ≤ c) (hG : xG T n τ1 p) (hcx : τ1 7 5 = ctx fl) (hfl : fl = true) (hl : fnd w lokW 0 ≠ -1) (hb : 0 ≤ fnd w lokW 0 ∧ fnd w lokW 0 < 2) {X : RX} (hX : x2_looked rc (fnd w lokW 0) τ1 = some X) : xJ rc c τ1 = if X.1 = 0 then some (0, X.2.1, X.2.2) else some (1, 0, X.2.2) := by
  have hlk := hG.2.2.2.2.2.2.2.2.2.1
  have hf := find_ev hw hc hlk
  have hne := fre_ne hlk.1.1
  unfold xJ
  have nm : ¬ i32 (fnd w lokW 0) = i32 (-1) := ne32 (by omega) (by omega) hl
  exact st_bnd (st_t (by rw [hcx]; exact ctx_497.1 hfl) (st_gd hne (st_bind hf (st_f nm (st_bind hX rfl)))))
theorem cst_eq {c p : Int} {τ1 : XS} {w : List Int} (hw : strX τ1 c w) (hc : 0 ≤ c) (hG : xG T n τ1 p) {q : Int × List Int} (hq : q ∈ csl) : j6_equals true c (τ1 (-1) q.1) τ1 = some (b2i (decide (w = q.2)), τ1) := equals_ev hw (hG.2.2.2.2.2.2.1 q hq) (Or.inl hc)
theorem xJ_go {rc : XS → Option RX} {c p : Int} {τ1 : XS} {w : List Int} (hw : strX τ1 c w) (hc : 0 ≤ c) (hG : xG T n τ1 p) (hcx : τ1 7 5 = ctx fl) (hl : ¬ (fl = true ∧ fnd w lokW 0 ≠ -1)) :
    (w = wo 83 → ∀ X, x2_within rc 1 τ1 = some X → xJ rc c τ1 = if X.1 = 0 then some (0, X.2.1, X.2.2) else some (1, 0, X.2.2)) ∧ (w = wo 84 → ∀ X, x2_within rc 2 τ1 = some X → xJ rc c τ1 = if X.1 = 0 then some (0, X.2.1, X.2.2) else some (1, 0, X.2.2)) ∧ (w ≠ wo 83 → w ≠ wo 84 → xJ rc c τ1 = some (1, 0, ux (ux τ1 8 6 1) 8 7 (τ1 7 3))) := by
  have hlk := hG.2.2.2.2.2.2.2.2.2.1
  have hf := find_ev hw hc hlk
  have hne := fre_ne hlk.1.1
  have tc := tgf (t := 22) hw.1.1 hw.1.2
  have e134 := cst_eq hw hc hG (q := (134, [109, 105, 110])) (by decide)
  have e135 := cst_eq hw hc hG (q := (135, [109, 97, 120])) (by decide)
  have go : ∀ R, (∀ w15 : Int, w15 = -1 → (if i32 w15 = i32 (-1) then
                gd (tg true τ1 c = 22) <|
                Option.bind (j6_equals true c (τ1 (-1) 134) τ1) fun z18 =>
                bnd (fun (x1_20 : Int) (s21 : XS) =>
                    gd (tg true s21 x1_20 = 22) <|
                    Option.bind (j6_equals true x1_20 (s21 (-1) 134) s21) fun z22 =>
                    bnd (fun (w24 : Int) (s25 : XS) =>
                        Option.bind (x2_within rc w24 s25) fun z26 =>
                        if z26.1 = 0 then
                        some (0, z26.2.1, z26.2.2)
                        else some (1, 0, z26.2.2)) fun j28 =>
                    if i32 z22.1 = 0 then
                      j28 2 z22.2
                    else
                      j28 1 z22.2) fun j30 =>
                if i32 z18.1 = 0 then
                  gd (tg true z18.2 c = 22) <|
                  Option.bind (j6_equals true c (z18.2 (-1) 135) z18.2) fun z32 =>
                  if i32 z32.1 = 0 then
                    Option.bind (x2_wrong 1 (z32.2 7 3) z32.2) fun z35 =>
                    gd (z35.1 = 8) <|
                    some (1, 0, z35.2)
                  else
                    j30 c z32.2
                else
                  j30 c z18.2
              else
                Option.bind (x2_looked rc w15 τ1) fun z37 =>
                if z37.1 = 0 then
                some (0, z37.2.1, z37.2.2)
                else some (1, 0, z37.2.2)) = R) → xJ rc c τ1 = R := by
    intro R hR
    unfold xJ
    refine st_bnd ?_
    by_cases hfl : fl = true
    · have hm : fnd w lokW 0 = -1 := by
        by_cases h : fnd w lokW 0 = -1
        · exact h
        · exact absurd ⟨hfl, h⟩ hl
      exact st_t (by rw [hcx]; exact ctx_497.1 hfl) (st_gd hne (st_bind hf (hR _ hm)))
    · exact st_f (by rw [hcx]; exact ctx_497.2 hfl) (hR _ rfl)
  refine ⟨fun h83 X hX => ?_, fun h84 X hX => ?_, fun h83 h84 => ?_⟩
  · rw [decide_eq_true (show w = ((134, [109, 105, 110]) : Int × List Int).2 from h83), b2i_1] at e134
    exact go _ (fun w15 h => st_t (by rw [h]) (st_gd tc (st_bind e134 (st_bnd (st_f n10 (st_gd tc (st_bind e134 (st_bnd (st_f n10 (st_bind hX rfl))))))))))
  · rw [decide_eq_false (show ¬ w = ((134, [109, 105, 110]) : Int × List Int).2 by rw [h84]; decide), b2i_0] at e134
    rw [decide_eq_true (show w = ((135, [109, 97, 120]) : Int × List Int).2 from h84), b2i_1] at e135
    exact go _ (fun w15 h => st_t (by rw [h]) (st_gd tc (st_bind e134 (st_bnd (st_t i32_0 (st_gd tc (st_bind e135 (st_f n10 (st_gd tc (st_bind e134 (st_bnd (st_t i32_0 (st_bind hX rfl)))))))))))))
  · rw [decide_eq_false (show ¬ w = ((134, [109, 105, 110]) : Int × List Int).2 from h83), b2i_0] at e134
    rw [decide_eq_false (show ¬ w = ((135, [109, 97, 120]) : Int × List Int).2 from h84), b2i_0] at e135
    exact go _ (fun w15 h => st_t (by rw [h]) (st_gd tc (st_bind e134 (st_bnd (st_t i32_0 (st_gd tc (st_bind e135 (st_t i32_0 (st_bind (wrong_ev _ _ _) (st_gd rfl rfl))))))))))
end
