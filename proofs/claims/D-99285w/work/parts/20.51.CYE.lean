set_option maxRecDepth 100000
/-! LAYER 2: the statement of a verb, joined -/
section
variable {T : Int → Int} {n p : Int} {τb τ τ' : XS} {s s' s0 : MS} {c : Int}
theorem verb_st {pl : Int} {es fs : List Int} {ws vs : List (List Int)} (hG : xG T n τ p) (hM : mG T n s p) (hb : exc τb τ) (h4 : τ 7 4 = 0) (h6 : τ 7 6 = c) (hcb : lsb τb τ c) (hC : CYR τ s c 1 es fs ws vs) (h44 : s 44 0 ≤ p) :
    StR 1 T n τb c p τ s (xN2 pl 1 τ) (m_verbTold pl s) := by
  rcases verb_ok (pl := pl) hG hM hb h4 h6 hC h44 with h | ⟨w, a, e1, τ1, v1, e2, τ2, τ3, v2, e3, τ4, s3, hl, hx, hm, ⟨x2, y2, r3, i2⟩, ⟨x5, x5', al1⟩, x6, ⟨al2, al3, r4, r5⟩, ⟨hv1, hv2⟩, he, ⟨G4, h44'⟩, ⟨m2, m3⟩, hr⟩
  · exact Or.inr (Or.inl h)
  have hal := hG.2.2.2.2.2.1
  have hN := hal.1
  have hN2 := al2.1
  have e3b := G4.2.2.2.2.1
  have hwl := wlq_b (T := T) e3b.2
  have al4 := G4.2.2.2.2.2.1
  obtain ⟨x, ex⟩ : ∃ x, τ2 (-1) 0 = x := ⟨_, rfl⟩
  rw [ex] at hx r4 r5
  have x0 : 1514 ≤ x := by omega
  have t4 : τ4 x (-1) = 10 := by rw [i2.2.2.1 x (by omega) (by omega) (by omega) (by omega)]; exact r4
  have hi := x11_ev (τ := τ4) (x := x) (a := a) (v1 := v1) (v2 := v2) ⟨x0, t4⟩ (by omega)
  obtain ⟨τ5, e5⟩ : ∃ τ5, ux (ux (ux τ4 x 0 a) x 1 v1) x 2 v2 = τ5 := ⟨_, rfl⟩
  rw [e5] at hi
  have f5 : ∀ y, y ≠ x → τ5 y = τ4 y := fun y h => by rw [← e5, ux_cell h, ux_cell h, ux_cell h]
  have fx0 : τ5 x 0 = a := by rw [← e5, ux_i _ _ _ _ (by decide), ux_i _ _ _ _ (by decide), ux_s]
  have fx1 : τ5 x 1 = v1 := by rw [← e5, ux_i _ _ _ _ (by decide), ux_s]
  have fx2 : τ5 x 2 = v2 := by rw [← e5, ux_s]
  have ft : τ5 x (-1) = 10 := by rw [← e5, ux_i _ _ _ _ (by decide), ux_i _ _ _ _ (by decide), ux_i _ _ _ _ (by decide)]; exact t4
  have al5 : al τ5 := by rw [← e5]; exact ((al4.u (by omega) (by decide)).u (by omega) (by decide)).u (by omega) (by decide)
  have fN : τ5 (-1) = τ4 (-1) := f5 _ (by omega)
  have k24 := (r3.tr i2).kps
  have kp : kps τ2 τ5 := ⟨by rw [fN]; exact k24.1, fun y q1 q2 => by rw [f5 y (by omega)]; exact k24.2 y q1 q2⟩
  have C2 : CYR τ2 s3 c 1 es fs ws vs := hC.keep hal (x2.tr y2) (cyk_3 m2)
  have C5 := C2.kp al2 kp (s' := s3) (fun k _ => rfl)
  have c0 := hC.1.1.1
  have h36 : s3 36 1 = vs.length := C5.2.2.1.2.1
  have hfl : fs.length = vs.length := hC.2.2.1.1.1
  obtain ⟨sF, p1, p2, p3, p4, p5, p6, p7⟩ := vbPut_ev (v := nmV w) (a := v1) (b := v2) h36 (by omega)
  have k14 := (y2.tr (r3.tr i2))
  have hn1 := y2.1.1
  have sx4 : strX τ4 a w := x5.ext al1 k14
  have la : a < τ1 (-1) 0 := tag_lt al1 x5.1.2 (by decide)
  have la0 : τ1 a 0 < τ1 (-1) 0 := tag_lt al1 x5.2.2.1.2 (by decide)
  have ea : τ4 a = τ1 a := k14.2.2.1 a (by omega) (by omega) (by omega) la
  have sx5 : strX τ5 a w := sx4.kept (f5 a (by omega)) (by rw [ea]; exact f5 _ (by omega))
  have hvb : vbOk τ5 sF fs.length x w := by
    refine ⟨⟨x0, ft⟩, by rw [fx0]; exact sx5, ?_, by rw [fx1]; exact hv1, by rw [fx2]; exact hv2⟩
    rw [fx1, fx2, hfl]
    exact ⟨p6.1.symm, p6.2.symm⟩
  obtain ⟨τ6, q1, q2, q3, q4, qb, q5, q6, q7, q8⟩ := C5.addV al5 hvb hl x6 (fun k h => p2 k (by revert h; exact (by decide : ∀ k ∈ ([35, 38, 40, 41, 42, 43, 44, 45] : List Nat), k ∉ ([36, 37, 39] : List Nat)) k)) ⟨by rw [p4.1, h36], p4.2⟩ p5 (by rw [hfl]; exact p7)
  have ec2 : τ2 c = τ c := (x2.tr y2).2.2.1 c (by omega) (by omega) (by omega) (tag_lt hal hC.1.1.2 (by decide))
  have q76 : τ2 7 6 = c := by rw [(x2.tr y2).2.2.2 6 (by decide) (by decide) (by decide)]; exact h6
  have ec5 : τ5 c = τ2 c := kp.2 c (new_fre c0) (tag_lt al2 C2.1.1.2 (by decide))
  have l5 : 1514 ≤ τ c 5 := hC.1.2.2.2.1.1.1
  have b5 := tag_lt hal hC.1.tags.2.2.2.1 (by decide)
  have elc : τ5 (τ c 5) = τ (τ c 5) := by
    rw [kp.2 _ (new_fre l5) (by have := (x2.tr y2).1.1; omega)]
    exact (x2.tr y2).2.2.1 _ (by omega) (by omega) (by omega) b5
  have l51 : 1514 ≤ τ (τ c 5) 1 := hC.1.2.2.2.1.2.1.1
  rw [ec5, ec2] at q1 q4
  rw [elc] at q4
  have g21 : tg true τ5 (τ2 (τ2 7 6) 5) = 21 := by rw [q76, ec2]; exact tgf (t := 21) (new_fre l5) (by rw [elc]; exact hC.1.tags.2.2.2.1)
  have q1' : j2_add true (τ2 (τ2 7 6) 5) x τ5 = some (1, τ6) := by rw [q76, ec2]; exact q1
  have hN5 : τ (-1) 0 ≤ τ5 (-1) 0 := by rw [fN]; have := (x2.tr y2).1.1; have := k24.1; omega
  have k7 : τ6 7 = τ4 7 := by rw [q4 7 (by decide) (by omega) (by omega) (by omega)]; exact f5 7 (by omega)
  have tl5 : τ5 (τ c 5) (-1) = 21 := by rw [elc]; exact hC.1.tags.2.2.2.1
  have tl51 : τ5 (τ (τ c 5) 1) (-1) = 110 := by have := C5.1.tags.2.2.2.2; rw [ec5, ec2, elc] at this; exact this
  have G6 : xG T n τ6 e3 := by
    refine G4.off q2 (fun i hi => by rw [q6 i hi, fN]) (by rw [q4 6 (by decide) (by omega) (by omega) (by omega)]; exact f5 6 (by omega)) (by rw [k7]) (by rw [k7]) (fun y hf ht => ?_)
    have yx : y ≠ x := fun e => by rw [e] at ht; omega
    rw [← f5 y yx] at ht ⊢
    exact q4 y (fre_ne hf) (fun e => by rw [e] at ht; omega) (fun e => by rw [e] at ht; omega) (tag_lt al5 (c := y) rfl (by omega))
  have X4 : exc τb τ4 := ((hb.ex x2).ex y2).ex (r3.tr i2)
  have X5 : exc τb τ5 := by rw [← e5]; have hx1 : τb (-1) 0 ≤ x := by have := hb.1.1; have := (x2.tr y2).1.1; omega
                            exact ((X4.un hx1 x0).un hx1 x0).un hx1 x0
  have X6 : exc τb τ6 := by
    refine ⟨⟨by have := X5.1.1; omega, by have := X5.1.2; omega⟩, fun i hi => by rw [q6 i hi]; exact X5.2.1 i hi, fun y h1 h2 h3 h4 => ?_, fun i h1 h2 h3 h4 => ?_⟩
    · rw [q4 y h1 (by have := hcb.2; omega) (by have := hcb.2; omega) (by have := X5.1.1; omega)]
      exact X5.2.2.1 y h1 h2 h3 h4
    · rw [k7]
      exact X4.2.2.2 i h1 h2 h3 h4
  left
  refine ⟨τ6, 0, sF, e3, e3, es, fs ++ [x], ws, vs ++ [w], ?_, by rw [hm]; exact p1, ⟨G6, X6, by rw [k7]; exact h44'⟩, ⟨m3.of' p2 (by decide), (stk.of m2 (by decide)).tr p3, rfl⟩, ⟨q3, ?_, qb τb X5.1.1 (((hcb.kp hal hC.1 (x2.tr y2).kps)).kp al2 C2.1 kp)⟩, by omega, ?_⟩
  · rw [hx]
    exact st_bind hi (st_gd g21 (st_bind q1' rfl))
  · rw [p2 44 (by decide), m2 44 (by decide)]
    omega
  · unfold rmo at *
    rw [fN] at q5
    omega
end
