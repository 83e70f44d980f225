set_option maxRecDepth 100000
/-! LAYER 2: both read tests: and, or -/
section
variable {T : Int → Int} {n : Int} {fl : Bool}
theorem both_ok {r : Int} (hA : FactOK T n fl r) (kx : Nat) (p pm o : Int) (τ : XS) (s : MS) (C W : List Int) (k : MS → Option (Int × MS)) (fo : Nat) (hr : n - p ≤ r) (hpm : rn qB T n pm = rn qB T n p) (hkx : 6 - o < kx) (hG : xG T n τ p) (ho : τ 7 4 = o) (hcx : τ 7 5 = ctx fl) (hQ : mQ T n (tkf fl) s pm C W 0 o) (hW : s10 W) (hW2 : s12 W) (hW10 : ∀ y ∈ W, 10 ≤ y) (hCW : (C.length + W.length : Int) ≤ rn qB T n p) (hfo : n - rn qB T n p + 3 ≤ fo) :
    BothR T n fl (x2_both (x2_fact kx) τ) τ p o (mTf k fo s) s C W k := by
  have hal := hG.2.2.2.2.2.1
  have hN := hal.1
  have hS := hal.2.1
  have hp := hG.2.2.2.2.1
  have hn := hG.1.1
  have hle := rn_le (q := qB) (T := T) (n := n) p
  have hsk := sk_b hG
  obtain ⟨τ1, n1, n2, n3, n4, n5, n6, n7, n8, n9⟩ := newFacts_ev hal fl (DT o) (a := 1) (Or.inr rfl)
  have hG1 : xG T n τ1 p := hG.of n2 n3 (by rw [n5]; exact hG.2.2.2.1) hp
  have ho6 := hQ.2.2.2.2.1
  have hat := hA kx p pm o τ1 s C W [] k fo hr hpm hkx hG1 (by rw [n5]; exact ho) (by rw [n5]; exact hcx) (by simpa using hQ) hW2 hW10 (by simp) (by simp; omega) (by simp; omega) hfo
  have ht1 := tgf (τ := τ1) (t := 11) (new_fre hN) n4.1.2
  have hlr : 1514 ≤ τ1 (τ (-1) 0) 0 := by have := n4.2.2.1.1.1; unfold rg at this; omega
  have hX : x2_both (x2_fact kx) τ = Option.bind (x2_fact kx τ1) (fun z7 => if z7.1 = 0 then gd (tg true z7.2.2 (τ1 (τ (-1) 0) 0) = 21) <| Option.bind (j2_add true (τ1 (τ (-1) 0) 0) z7.2.1 z7.2.2) (fun z9 => x2_both_L23 (x2_fact kx) (fun (x1_24 : Int) (s25 : XS) => some (0, x1_24, s25)) FU (τ (-1) 0) z9.2) else some (1, 0, z7.2.2)) := by
    unfold x2_both
    exact st_gd ⟨by omega, hS⟩ (st_bnd (st_bind n1 (st_bnd (st_gd ht1 (st_gd (fre_ne (new_fre hlr)) rfl)))))
  rw [hX]
  rcases hat with ⟨cs, p', x, τ2, s2, gl', go', x1, ⟨x2, x3, x4, x5⟩, x6, x7, ⟨y1, y2, y3⟩, x8, x9, x10⟩ | ⟨kd, pl, τ2, s2, x1, x2, x3, x4, x5, x6⟩
  · have hlt := fcLt_keep hN n4 x2
    obtain ⟨hC2, hpt2, hl1⟩ := n4.keep hN x2
    obtain ⟨τ3, b1, b2, b3, b4, b5, b6, b7, b8⟩ := hC2.add (n2.tr x2) rfl hN x3.2.2.2.2.2.1 (by simp) (x := x) (N1 := τ1 (-1) 0) (ds := cs) x5 (by omega) hlt
    have hp' := x3.2.2.2.2.1
    have hG2 : xG T n τ3 p' := hG.of b2 b3 (by rw [b5]; exact x3.2.2.2.1) hp'
    have ht2 := tgf (τ := τ2) (t := 21) (new_fre hlr) (by rw [← hl1]; exact hC2.2.2.1.1.2)
    rw [hl1] at b1
    have hFU := FU_ge
    have := both_loop hA hkx hG hN (s0 := s) hW hW10 (k := k) (M := mTf k fo s) (c := τ (-1) 0) (n - p').toNat FU p' τ3 s2 ([] ++ [x]) ([] ++ [cs]) cs [] gl' go' (by omega) (by omega) (by omega) hG2 (by rw [b5]; exact x4) (by rw [b5]; exact ctx_ext x2 (by rw [n5]; exact hcx)) b2 b4 (by simp) (by simp; omega) (by
      unfold rmo at *
      simp only [List.nil_append, List.length_singleton]
      omega) (by simp [joins]) ⟨y1, y2, by simpa using y3⟩ (by simp; omega) (by omega) hCW (by simp) x9 x10
    refine Eq.mp (congrArg (fun X => BothR T n fl X τ p o (mTf k fo s) s C W k) ?_) this
    exact (st_bind x1 (st_t rfl (st_gd ht2 (st_bind b1 rfl)))).symm
  · refine Or.inr (Or.inl ⟨kd, pl, τ2, s2, st_bind x1 (st_f n_10 rfl), x2.after n2, ?_, x4, x5, x6⟩)
    unfold rmo at *
    omega
theorem test_loop {r : Int} (hA : FactOK T n fl r) {kx : Nat} {o p0 : Int} (hkx : 6 - o < kx) {τ0 : XS} (hG0 : xG T n τ0 p0) (hN0 : 1514 ≤ τ0 (-1) 0) {s0 : MS} {C W : List Int} (hW : s11 W) (hW10 : ∀ y ∈ W, 10 ≤ y) {k : MS → Option (Int × MS)} {M : Option (Int × MS)} {c : Int} :
    ∀ (d fuel : Nat) (p pm : Int) (τ : XS) (s : MS) (es : List Int) (css : List (List Int)) (D ops : List Int) (gl go : Nat), (n - p).toNat ≤ d → d + 1 < fuel → n - p ≤ r → xG T n τ p → (rn qB T n pm = rn qB T n p ∧ pm ≤ p ∧ p ≤ rn qB T n pm) → τ 7 4 = o → τ 7 5 = ctx fl → ext τ0 τ → FC τ (τ0 (-1) 0) fl (DT o + 1) c 0 es css → 0 < es.length → (es.length : Int) ≤ pm - rn qB T n p0 → rmo (60 * (p - p0) + 3 - 22 * es.length) (500 * (p - p0) - 1 + potF τ c - 70 * es.length + 2 * wlq T n p) τ0 τ → joins css (List.replicate (css.length - 1) 11) = D ++ ops → (M = mUf k gl go s ∧ only pks s0 s ∧ mQ T n (tkf fl) s pm (C ++ D) (W ++ ops.reverse) 0 o) → (D.length + ops.length : Int) ≤ pm - rn qB T n p0 → rn qB T n p0 < pm → (C.length + W.length : Int) ≤ rn qB T n p0 → (∀ y ∈ ops, y = 10 ∨ y = 11) → (hereW T n (rn qB T n p) (wo 80) = false ∧ (qL (bA T n (rn qB T n p)) = true → pd T n (rn qB T n p) = false)) → n - pm + 3 ≤ gl → n - pm + 3 ≤ go →
      TestR T n fl (x2_test_L23 (x2_fact kx) (fun (x1_24 : Int) (s25 : XS) => some (0, x1_24, s25)) fuel c τ) τ0 p0 o M s0 C W k := by
  intro d
  induction d with
  | zero =>
    intro fuel p pm τ s es css D ops gl go hd hf hr hG hpm ho hcx he hC hes hes2 hrm hj hM hDl hpp hCW hops hnx hgl hgo
    have hp := hG.2.2.2.2.1
    have hq : rn qB T n p = p := rn_stop (by rw [bA_out (by omega)]; exact qB_1)
    have hbA : bA T n p = -1 := bA_out (by omega)
    have hqL : qL (bA T n (rn qB T n p)) = false := by rw [hq, hbA]; rfl
    obtain ⟨f, rfl⟩ : ∃ f, fuel = f + 1 := ⟨fuel - 1, by omega⟩
    have hps := passes_no hG (c := τ (-1) 137) hqL
    rw [hq, ux_self hG.2.2.2.1] at hps
    have hpb := potF_b hC
    have hwl := wlq_b (T := T) hp.2
    refine Or.inl ⟨p, pm, c, τ, s, D, ops, gl, go, ?_, ⟨he, hG, ho, ?_⟩, ⟨hpm.1, hpp, hpm.2⟩, ?_, hM, hDl, hops, ⟨hereW_no hqL _, hereW_no hqL _⟩, hgl, hgo⟩
    · rw [x2_test_L23]
      exact st_bind hps (st_t rfl (st_t i32_0 rfl))
    · rw [← hj]; exact hC.done hes
    · unfold rmo at *; omega
  | succ d ih =>
    intro fuel p pm τ s es css D ops gl go hd hf hr hG hpm ho hcx he hC hes hes2 hrm hj hM hDl hpp hCW hops hnx hgl hgo
    have hp := hG.2.2.2.2.1
    have hn := hG.1.1
    have hsk := sk_b hG
    have hle := rn_le (q := qB) (T := T) (n := n) p
    have hpb := potF_b hC
    have hwl := wlq_b (T := T) hp.2
    obtain ⟨f, rfl⟩ : ∃ f, fuel = f + 1 := ⟨fuel - 1, by omega⟩
    obtain ⟨gl, rfl⟩ : ∃ g, gl = g + 1 := ⟨gl - 1, by omega⟩
    obtain ⟨hM1, hM2, hM3⟩ := hM
    rcases passes_all hG (q := (137, [111, 114])) (by decide) with ⟨c1, c2, -⟩ | ⟨hw, τ1, a1, a2, a3, a4, a5, a6⟩ | ⟨hw, hpd, p', τ1, a1, a2, a3, ⟨a4, a5, a6⟩, a7, a8⟩
    · rw [hnx.2 c1] at c2; cases c2
    · obtain ⟨s1, u1, u2, u3⟩ := U_or (k := k) (fl := gl) (fo := go) hM3 (by rw [List.length_append]; omega) (by rw [hpm.1]; exact hw) hW hops (by omega)
      rw [hpm.1] at u3
      have hc1 := (hereW_at hw).1
      have hr' := rn_hi (q := qL) (T := T) qL_1 hsk.2
      have hr2 := rn_lt (q := qL) (T := T) (n := n) qL_1 hc1
      have hw3 : wlq T n p = 2 := by
        have := ((wdl_eq (rn_le (q := qL) (T := T) (n := n) (rn qB T n p))).mp (hereW_at hw).2.2).1
        unfold wlq
        rw [this]; rfl
      have hle2 := rn_le (q := qB) (T := T) (n := n) (rn qL T n (rn qB T n p))
      have hwe : rn qL T n (rn qB T n p) = rn qB T n p + 2 := by unfold wlq at hw3; omega
      have hat := both_ok hA kx (rn qL T n (rn qB T n p)) (rn qL T n (rn qB T n p)) o τ1 s1 (C ++ D ++ ops) (W ++ [11]) k go (by omega) rfl hkx a3 (by rw [a5]; exact ho) (ctx_ext a2 hcx) u3 (Or.inr ⟨W, 11, rfl, by decide⟩) (Or.inr ⟨W, 11, rfl, by decide⟩) (by
        intro y hy
        rcases List.mem_append.mp hy with hy | hy
        · exact hW10 y hy
        · rw [List.mem_singleton.mp hy]; omega) (by simp; omega) (by omega)
      obtain ⟨hC1, hpt, hl0⟩ := hC.keep hN0 a2
      have ht1 := tgf (τ := τ1) (t := 11) (new_fre (show 1514 ≤ c by have := hC1.1.1.1; omega)) hC1.1.2
      have hlr : 1514 ≤ τ1 c 0 := by have := hC1.2.2.1.1.1; unfold rg at this; omega
      rcases hat with ⟨p', pm', x, τ2, s2, D2, ops2, gl', go', x1, ⟨x2, x3, x4, x5⟩, ⟨z1, z2, z3, z4⟩, x7, ⟨y1, y2, y3⟩, x8, o1, nx, x9, x10⟩ | ⟨kd, pl, τ2, s2, x1, x2, x3, x4, x5, x6⟩ | ⟨q, τ2, s2, Cx, Wx, ox, x1, x2, x3, ⟨x4, x5, x6⟩, x7, x8, x9⟩
      · have hlt := fcLt_keep hN0 hC1 x2
        obtain ⟨hC2, hpt2, hl1⟩ := hC1.keep hN0 x2
        obtain ⟨τ3, b1, b2, b3, b4, b5, b6, b7, b8⟩ := hC2.add ((he.tr a2).tr x2) rfl hN0 x3.2.2.2.2.2.1 (by omega) (x := x) (N1 := τ1 (-1) 0) (ds := D2 ++ ops2) x5 (by have := he.1.1; have := a2.1.1; omega) hlt
        have hp' := x3.2.2.2.2.1
        have hG2 : xG T n τ3 p' := hG0.of b2 b3 (by rw [b5]; exact x3.2.2.2.1) hp'
        have ht2 := tgf (τ := τ2) (t := 21) (new_fre hlr) (by rw [← hl1]; exact hC2.2.2.1.1.2)
        rw [hl1] at b1
        have := ih f p' pm' τ3 s2 (es ++ [x]) (css ++ [D2 ++ ops2]) (D ++ ops ++ D2) (ops2 ++ [11]) gl' go' (by omega) (by omega) (by omega) hG2 ⟨z1, z3, z4⟩ (by rw [b5]; exact x4) (by rw [b5]; exact ctx_ext x2 (ctx_ext a2 hcx)) b2 b4 (by simp) (by rw [List.length_append, List.length_singleton]; omega) (by
          unfold rmo at *
          rw [List.length_append, List.length_singleton]
          omega) (by
          rw [joinsR_snoc css _ 11 (by have := hC.2.2.2.2.1; omega), hj]
          simp [List.append_assoc]) ⟨hM1.trans (u1.trans y1), hM2.tr (u2.tr y2), by
          simpa [List.append_assoc] using y3⟩ (by simp; omega) (by omega) hCW (by
          intro y hy
          rcases List.mem_append.mp hy with hy | hy
          · exact Or.inl (o1 y hy)
          · exact Or.inr (List.mem_singleton.mp hy)) nx x9 x10
        refine Eq.mp (congrArg (fun X => TestR T n fl X τ0 p0 o M s0 C W k) ?_) this
        rw [x2_test_L23.eq_2 (n := f)]
        exact (st_bind a1 (st_t rfl (st_f n10 (st_gd ht1 (st_gd (fre_ne (new_fre hlr)) (st_bind x1 (st_t rfl (st_gd ht2 (st_bind b1 rfl))))))))).symm
      · refine Or.inr (Or.inl ⟨kd, pl, τ2, s2, ?_, x2.after (he.tr a2), ?_, hM1.trans (u1.trans x4), ⟨hM2.tr (u2.tr x5.1), x5.2⟩, x6⟩)
        · rw [x2_test_L23]
          exact st_bind a1 (st_t rfl (st_f n10 (st_gd ht1 (st_gd (fre_ne (new_fre hlr)) (st_bind x1 (st_f n_10 rfl))))))
        · unfold rmo at *
          omega
      · refine Or.inr (Or.inr ⟨q, τ2, s2, Cx, Wx, ox, ?_, x2.after (he.tr a2), ?_, ⟨hM1.trans (u1.trans x4), hM2.tr (u2.tr x5), x6⟩, x7, (fun h => x8 (List.mem_append_left _ h)), x9.1, by have h9 := x9.2; rw [List.length_append, List.length_append, List.length_append, List.length_singleton] at h9; omega⟩)
        · rw [x2_test_L23]
          exact st_bind a1 (st_t rfl (st_f n10 (st_gd ht1 (st_gd (fre_ne (new_fre hlr)) (st_bind x1 (st_f n_10 rfl))))))
        · unfold rmo at *
          omega
    · obtain ⟨hC1, hpt, hl0⟩ := hC.keep hN0 a2
      have hwe : wlq T n p' = wlq T n p := by unfold wlq; rw [a6]
      refine Or.inl ⟨p', pm, c, τ1, s, D, ops, gl + 1, go, ?_, ⟨he.tr a2, a3, by rw [a7]; exact ho, ?_⟩, ⟨by rw [a6]; exact hpm.1, hpp, by omega, by omega⟩, ?_, ⟨hM1, hM2, hM3⟩, hDl, hops, ⟨by rw [a6]; exact hnx.1, by rw [a6]; exact hw⟩, hgl, hgo⟩
      · rw [x2_test_L23]
        exact st_bind a1 (st_t rfl (st_t i32_0 rfl))
      · rw [← hj]; exact hC1.done hes
      · unfold rmo at *
        rw [hwe]
        omega
theorem test_ok {r : Int} (hA : FactOK T n fl r) (kx : Nat) (p pm o : Int) (τ : XS) (s : MS) (C W : List Int) (k : MS → Option (Int × MS)) (fo : Nat) (hr : n - p ≤ r) (hpm : rn qB T n pm = rn qB T n p) (hkx : 6 - o < kx) (hG : xG T n τ p) (ho : τ 7 4 = o) (hcx : τ 7 5 = ctx fl) (hQ : mQ T n (tkf fl) s pm C W 0 o) (hW : s11 W) (hW1 : s10 W) (hW2 : s12 W) (hW10 : ∀ y ∈ W, 10 ≤ y) (hCW : (C.length + W.length : Int) ≤ rn qB T n p) (hfo : n - rn qB T n p + 3 ≤ fo) :
    TestR T n fl (x2_test (x2_fact kx) τ) τ p o (mTf k fo s) s C W k := by
  have hal := hG.2.2.2.2.2.1
  have hN := hal.1
  have hS := hal.2.1
  have hp := hG.2.2.2.2.1
  have hn := hG.1.1
  have hle := rn_le (q := qB) (T := T) (n := n) p
  have hsk := sk_b hG
  obtain ⟨τ1, n1, n2, n3, n4, n5, n6, n7, n8, n9⟩ := newFacts_ev hal fl (DT o + 1) (a := 0) (Or.inl rfl)
  have hG1 : xG T n τ1 p := hG.of n2 n3 (by rw [n5]; exact hG.2.2.2.1) hp
  have ho6 := hQ.2.2.2.2.1
  have hat := both_ok hA kx p pm o τ1 s C W k fo hr hpm hkx hG1 (by rw [n5]; exact ho) (by rw [n5]; exact hcx) hQ hW1 hW2 hW10 hCW hfo
  have ht1 := tgf (τ := τ1) (t := 11) (new_fre hN) n4.1.2
  have hlr : 1514 ≤ τ1 (τ (-1) 0) 0 := by have := n4.2.2.1.1.1; unfold rg at this; omega
  have hX : x2_test (x2_fact kx) τ = Option.bind (x2_both (x2_fact kx) τ1) (fun z7 => if z7.1 = 0 then gd (tg true z7.2.2 (τ1 (τ (-1) 0) 0) = 21) <| Option.bind (j2_add true (τ1 (τ (-1) 0) 0) z7.2.1 z7.2.2) (fun z9 => x2_test_L23 (x2_fact kx) (fun (x1_24 : Int) (s25 : XS) => some (0, x1_24, s25)) FU (τ (-1) 0) z9.2) else some (1, 0, z7.2.2)) := by
    unfold x2_test
    exact st_gd ⟨by omega, hS⟩ (st_bnd (st_bind n1 (st_bnd (st_gd ht1 (st_gd (fre_ne (new_fre hlr)) rfl)))))
  rw [hX]
  rcases hat with ⟨p', pm', x, τ2, s2, D2, ops2, gl', go', x1, ⟨x2, x3, x4, x5⟩, ⟨z1, z2, z3, z4⟩, x7, ⟨y1, y2, y3⟩, x8, o1, nx, x9, x10⟩ | ⟨kd, pl, τ2, s2, x1, x2, x3, x4, x5, x6⟩ | ⟨q, τ2, s2, Cx, Wx, ox, x1, x2, x3, ⟨x4, x5, x6⟩, x7, x8, x9⟩
  · have hlt := fcLt_keep hN n4 x2
    obtain ⟨hC2, hpt2, hl1⟩ := n4.keep hN x2
    obtain ⟨τ3, b1, b2, b3, b4, b5, b6, b7, b8⟩ := hC2.add (n2.tr x2) rfl hN x3.2.2.2.2.2.1 (by simp) (x := x) (N1 := τ1 (-1) 0) (ds := D2 ++ ops2) x5 (by omega) hlt
    have hp' := x3.2.2.2.2.1
    have hG2 : xG T n τ3 p' := hG.of b2 b3 (by rw [b5]; exact x3.2.2.2.1) hp'
    have ht2 := tgf (τ := τ2) (t := 21) (new_fre hlr) (by rw [← hl1]; exact hC2.2.2.1.1.2)
    rw [hl1] at b1
    have hFU := FU_ge
    have := test_loop hA hkx hG hN (s0 := s) hW hW10 (k := k) (M := mTf k fo s) (c := τ (-1) 0) (n - p').toNat FU p' pm' τ3 s2 ([] ++ [x]) ([] ++ [D2 ++ ops2]) D2 ops2 gl' go' (by omega) (by omega) (by omega) hG2 ⟨z1, z3, z4⟩ (by rw [b5]; exact x4) (by rw [b5]; exact ctx_ext x2 (by rw [n5]; exact hcx)) b2 b4 (by simp) (by simp; omega) (by
      unfold rmo at *
      simp only [List.nil_append, List.length_singleton]
      omega) (by simp [joins]) ⟨y1, y2, y3⟩ x8 z2 hCW (fun y hy => Or.inl (o1 y hy)) nx x9 x10
    refine Eq.mp (congrArg (fun X => TestR T n fl X τ p o (mTf k fo s) s C W k) ?_) this
    exact (st_bind x1 (st_t rfl (st_gd ht2 (st_bind b1 rfl)))).symm
  · refine Or.inr (Or.inl ⟨kd, pl, τ2, s2, st_bind x1 (st_f n_10 rfl), x2.after n2, ?_, x4, x5, x6⟩)
    unfold rmo at *
    omega
  · refine Or.inr (Or.inr ⟨q, τ2, s2, Cx, Wx, ox, st_bind x1 (st_f n_10 rfl), x2.after n2, ?_, ⟨x4, x5, x6⟩, x7, x8, x9⟩)
    unfold rmo at *
    omega
end
