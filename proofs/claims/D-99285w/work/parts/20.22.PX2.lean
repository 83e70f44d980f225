set_option maxRecDepth 100000
/-! LAYER 2: both read a sum -/
section
variable {T : Int → Int} {n : Int} {fl : Bool}
theorem s34_12 {W : List Int} {x : Int} (hx : x = 1 ∨ x = 2) : s34 (W ++ [x]) := Or.inr ⟨W, x, rfl, by omega, by omega⟩
theorem sum_loop {r : Int} (hA : AtomOK T n fl r) {kx : Nat} {o p0 : Int} (hkx : 6 - o < kx) {τ0 : XS} (hG0 : xG T n τ0 p0) (hN0 : 1514 ≤ τ0 (-1) 0) {s0 : MS} {C W : List Int} {b : Int} (hW : s14 W) (hW2 : s60 W b) (hb : b ≤ W.length) {k : Int → MS → Option (Int × MS)} {was : Int} {M : Option (Int × MS)} {c : Int} :
    ∀ (d fuel : Nat) (p pm : Int) (τ : XS) (s : MS) (es sg : List Int) (css : List (List Int)) (D ops : List Int) (gl go : Nat), (n - p).toNat ≤ d → d + 1 < fuel → n - p ≤ r → xG T n τ p → (rn qB T n pm = p ∧ pm ≤ p) → τ 7 4 = o → τ 7 5 = ctx fl → ext τ0 τ → CH τ (τ0 (-1) 0) fl (Dd o + 1) c es sg css → 0 < es.length → (es.length : Int) ≤ p - rn qB T n p0 → rmo (60 * (p - p0) + 5 - 11 * es.length) (400 * (p - p0) - 13 + pot τ c - 150 * es.length) τ0 τ → joins css ((sg.map cd).drop 1) = D ++ ops → (M = mAf k was gl go s ∧ only pks s0 s ∧ mQ T n (tkf fl) s pm (C ++ D) (W ++ ops.reverse) b o) → (D.length + ops.length : Int) ≤ pm - rn qB T n p0 → rn qB T n p0 < pm → (C.length + W.length : Int) ≤ rn qB T n p0 → (∀ y ∈ ops, 1 ≤ y ∧ y ≤ 4) → (bA T n p ≠ 42 ∧ bA T n p ≠ 47) → n - pm + 2 ≤ gl → n - pm + 2 ≤ go →
      SumR T n fl (x2_sum_L20 (x2_atom kx) (fun (x1_29 : Int) (s30 : XS) => some (0, x1_29, s30)) fuel c 1 τ) τ0 p0 o M s0 C W b k was := by
  intro d
  induction d with
  | zero =>
    intro fuel p pm τ s es sg css D ops gl go hd hf hr hG hpm ho hcx he hC hes hes2 hrm hj hM hDl hpp hCW hops hnx hgl hgo
    have hp := hG.2.2.2.2.1
    have hn := hG.1.1
    have hq : rn qB T n p = p := rn_stop (by rw [bA_out (by omega)]; exact qB_1)
    have hbA : bA T n p = -1 := bA_out (by omega)
    obtain ⟨f, rfl⟩ : ∃ f, fuel = f + 1 + 1 := ⟨fuel - 2, by omega⟩
    obtain ⟨t1, t2⟩ := takes_f hG (c := 43) (by omega) (by rw [hq, hbA]; decide)
    obtain ⟨t3, t4⟩ := takes_f t2 (c := 45) (by omega) (by rw [sk_sk, hq, hbA]; decide)
    rw [hq] at t1 t2 t3
    rw [hq, ux_ux] at t3
    have e7 : ux τ 7 2 p = τ := ux_self hG.2.2.2.1
    rw [e7] at t1 t3
    have hpb := pot_b hC
    refine Or.inl ⟨p, pm, c, τ, s, D, ops, gl, go, ?_, ⟨he, hG, ho, ?_⟩, ⟨hpm.1, hpp, hpm.2⟩, ?_, hM, hDl, hops, by rw [hbA]; unfold nsg; decide, hgl, hgo⟩
    · rw [x2_sum_L20]
      refine st_f n10 (st_bind t1 (st_t i32_0 (st_bind t3 (st_t i32_0 (st_bnd ?_)))))
      rw [x2_sum_L20]
      exact if_pos i32_0
    · rw [← hj]; exact hC.done hes
    · unfold rmo at *; omega
  | succ d ih =>
    intro fuel p pm τ s es sg css D ops gl go hd hf hr hG hpm ho hcx he hC hes hes2 hrm hj hM hDl hpp hCW hops hnx hgl hgo
    have hp := hG.2.2.2.2.1
    have hn := hG.1.1
    have hq : rn qB T n p = p := by rw [← hpm.1]; exact sk_sk T n pm
    have hpb := pot_b hC
    obtain ⟨f, rfl⟩ : ∃ f, fuel = f + 1 + 1 := ⟨fuel - 2, by omega⟩
    by_cases hc : bA T n p = 43 ∨ bA T n p = 45
    · have hin := bA_at (T := T) (n := n) (p := p) (by omega)
      obtain ⟨gl', rfl⟩ : ∃ g, gl = g + 1 := ⟨gl - 1, by omega⟩
      obtain ⟨go', rfl⟩ : ∃ g, go = g + 1 := ⟨go - 1, by omega⟩
      obtain ⟨hM1, hM2, hM3⟩ := hM
      obtain ⟨s1, a1, a2, a3⟩ := A_plus (k := k) (was := was) (fl := gl') (fo := go') hM3 (by rw [List.length_append]; omega) (by rw [hpm.1]; exact hc) hW hops hb
      rw [hpm.1] at a3
      have hG1 := hG.to (q := p + 1) (by omega)
      have he1 : ext τ0 (ux τ 7 2 (p + 1)) := he.u7 (Or.inl rfl)
      have heτ : ext τ (ux τ 7 2 (p + 1)) := ext.rf.u7 (Or.inl rfl)
      have hle1 := rn_le (q := qB) (T := T) (n := n) (p + 1)
      have hN1 : ux τ 7 2 (p + 1) (-1) = τ (-1) := ux_cell (by decide)
      have hFU := FU_ge
      have hcd : cd (bA T n p) = 1 ∨ cd (bA T n p) = 2 := by rcases hc with h | h <;> rw [h]; exact Or.inl rfl; exact Or.inr rfl
      have hat := prod_ok hA kx (p + 1) (p + 1) o (ux τ 7 2 (p + 1)) s1 (C ++ D ++ ops) (W ++ [cd (bA T n p)]) b k was FU go' (by omega) rfl hkx hG1 (by rw [ux_i _ _ _ _ (by decide)]; exact ho) (by rw [ux_i _ _ _ _ (by decide)]; exact hcx) a3 (s34_12 hcd) (s60_34 (by omega)) (by rw [List.length_append, List.length_singleton]; omega) (by simp; omega) (by omega) (by omega)
      have hXt : x2_sum_L20 (x2_atom kx) (fun (x1_29 : Int) (s30 : XS) => some (0, x1_29, s30)) (f + 1 + 1) c 1 τ = Option.bind (x2_product (x2_atom kx) (ux τ 7 2 (p + 1))) (fun z25 => if z25.1 = 0 then gd (tg true z25.2.2 c = 14) <| Option.bind (x17_add true c (bA T n p) z25.2.1 z25.2.2) (fun z27 => x2_sum_L20 (x2_atom kx) (fun (x1_29 : Int) (s30 : XS) => some (0, x1_29, s30)) (f + 1) c 1 z27.2) else some (1, 0, z25.2.2)) := by
        rw [x2_sum_L20]
        rcases hc with hc | hc
        · obtain ⟨t1, -⟩ := takes_t hG (c := 43) (by omega) (by rw [hq]; exact hc)
          rw [hq] at t1
          rw [hc]
          exact st_f n10 (st_bind t1 (st_f n10 rfl))
        · obtain ⟨t1, t2⟩ := takes_f hG (c := 43) (by omega) (by rw [hq]; omega)
          obtain ⟨t3, -⟩ := takes_t t2 (c := 45) (by omega) (by rw [sk_sk, hq]; exact hc)
          rw [sk_sk, ux_ux, hq] at t3
          rw [hq] at t1
          rw [hc]
          exact st_f n10 (st_bind t1 (st_t i32_0 (st_bind t3 (st_f n10 rfl))))
      rw [hXt]
      rcases hat with ⟨p', pm', x, τ1, s2, D2, ops2, fl', fo', x1, ⟨x2, x3, x4, x5⟩, ⟨z1, z2, z3⟩, x7, ⟨y1, y2, y3⟩, x8, ⟨o1, o2⟩, nx, x9, x10⟩ | ⟨kd, pl, τ1, s2, x1, x2, x3, x4, x5, x6⟩
      · rw [hN1] at x5
        have hlt := chLt_keep hN0 hC (heτ.tr x2)
        obtain ⟨hC1, hpt⟩ := hC.keep hN0 (heτ.tr x2)
        have hch : bA T n p = 43 ∨ bA T n p = 45 ∨ bA T n p = 42 ∨ bA T n p = 47 := by omega
        obtain ⟨τ2, b1, b2, b3, b4, b5, b6, b7, b8⟩ := hC1.add (he1.tr x2) rfl hN0 x3.2.2.2.2.2.1 (by omega) (x := x) (N1 := τ (-1) 0) (ch := bA T n p) (ds := D2 ++ ops2) x5 (by have := he.1.1; omega) hlt hch
        have hp' := x3.2.2.2.2.1
        have x34 : τ1 7 2 = p' := x3.2.2.2.1
        have hG2 : xG T n τ2 p' := hG0.of b2 b3 (by rw [b5]; exact x34) hp'
        have ht1 := tgf (τ := τ1) (t := 14) (new_fre (show 1514 ≤ c by have := hC1.1.1.1; omega)) hC1.1.2
        have hcx1 : τ1 7 5 = ctx fl := ctx_ext x2 (by rw [ux_i _ _ _ _ (by decide)]; exact hcx)
        have := ih (f + 1) p' pm' τ2 s2 (es ++ [x]) (sg ++ [bA T n p]) (css ++ [D2 ++ ops2]) (D ++ ops ++ D2) (ops2 ++ [cd (bA T n p)]) fl' fo' (by omega) (by omega) (by omega) hG2 ⟨z1, z3⟩ (by rw [b5]; exact x4) (by rw [b5]; exact hcx1) b2 b4 (by simp) (by rw [List.length_append, List.length_singleton]; omega) (by
          unfold rmo at *
          rw [hN1] at x7
          rw [List.length_append, List.length_singleton]
          omega) (by
          rw [joins_snoc css sg _ _ (by have := hC.2.2.2.2.1; omega) (by have := hC.2.2.2.2.1; omega), hj]
          simp [List.append_assoc]) ⟨hM1.trans (a1.trans y1), hM2.tr (a2.tr y2), by
          simpa [List.append_assoc] using y3⟩ (by simp; omega) (by omega) hCW (by
          intro y hy
          rcases List.mem_append.mp hy with hy | hy
          · have := o1 y hy; omega
          · rw [List.mem_singleton.mp hy]; omega) nx x9 x10
        refine Eq.mp (congrArg (fun X => SumR T n fl X τ0 p0 o M s0 C W b k was) ?_) this
        exact (st_bind x1 (st_t rfl (st_gd ht1 (st_bind b1 rfl)))).symm
      · refine Or.inr ⟨kd, pl, τ1, s2, st_bind x1 (st_f n_10 rfl), x2.after he1, ?_, hM1.trans (a1.trans x4), ⟨hM2.tr (a2.tr x5.1), x5.2⟩, x6⟩
        unfold rmo at *
        rw [hN1] at x3
        omega
    · obtain ⟨t1, t2⟩ := takes_f hG (c := 43) (by omega) (by rw [hq]; omega)
      obtain ⟨t3, t4⟩ := takes_f t2 (c := 45) (by omega) (by rw [sk_sk, hq]; omega)
      rw [sk_sk, ux_ux, hq] at t3
      rw [hq] at t1
      have e7 : ux τ 7 2 p = τ := ux_self hG.2.2.2.1
      rw [e7] at t1 t3
      refine Or.inl ⟨p, pm, c, τ, s, D, ops, gl, go, ?_, ⟨he, hG, ho, ?_⟩, ⟨hpm.1, hpp, hpm.2⟩, ?_, hM, hDl, hops, by unfold nsg; omega, hgl, hgo⟩
      · rw [x2_sum_L20]
        refine st_f n10 (st_bind t1 (st_t i32_0 (st_bind t3 (st_t i32_0 (st_bnd ?_)))))
        rw [x2_sum_L20]
        exact if_pos i32_0
      · rw [← hj]; exact hC.done hes
      · unfold rmo at *; omega
theorem sum_ok {r : Int} (hA : AtomOK T n fl r) (kx : Nat) (p pm o : Int) (τ : XS) (s : MS) (C W : List Int) (b : Int) (k : Int → MS → Option (Int × MS)) (was : Int) (fi fo : Nat) (hr : n - p ≤ r) (hpm : rn qB T n pm = rn qB T n p) (hkx : 6 - o < kx) (hG : xG T n τ p) (ho : τ 7 4 = o) (hcx : τ 7 5 = ctx fl) (hQ : mQ T n (tkf fl) s pm C W b o) (hW : s14 W) (hW3 : s34 W) (hW2 : s60 W b) (hb : b ≤ W.length) (hCW : (C.length + W.length : Int) ≤ rn qB T n p) (hfi : n - rn qB T n p + 2 ≤ fi) (hfo : n - rn qB T n p + 2 ≤ fo) :
    SumR T n fl (x2_sum (x2_atom kx) τ) τ p o (mEf k was fi fo s) s C W b k was := by
  have hal := hG.2.2.2.2.2.1
  have hN := hal.1
  have hS := hal.2.1
  have hp := hG.2.2.2.2.1
  have hn := hG.1.1
  have hle := rn_le (q := qB) (T := T) (n := n) p
  have hsk := sk_b hG
  obtain ⟨τ1, n1, n2, n3, n4, n5, n6, n7, n8, n9⟩ := newChain_ev hal fl (Dd o + 1)
  have hG1 : xG T n τ1 p := hG.of n2 n3 (by rw [n5]; exact hG.2.2.2.1) hp
  have ho6 := hQ.2.2.2.2.1
  have hat := prod_ok hA kx p pm o τ1 s C W b k was fi fo hr hpm hkx hG1 (by rw [n5]; exact ho) (by rw [n5]; exact hcx) hQ hW3 hW2 hb hCW hfi hfo
  have hX : x2_sum (x2_atom kx) τ = Option.bind (x2_product (x2_atom kx) τ1) (fun z5 => if z5.1 = 0 then gd (tg true z5.2.2 (τ (-1) 0) = 14) <| Option.bind (x17_add true (τ (-1) 0) 43 z5.2.1 z5.2.2) (fun z7 => bnd 1 fun x2_9 => x2_sum_L20 (x2_atom kx) (fun (x1_29 : Int) (s30 : XS) => some (0, x1_29, s30)) FU (τ (-1) 0) x2_9 z7.2) else some (1, 0, z5.2.2)) := by
    unfold x2_sum
    exact st_gd ⟨by omega, hS⟩ (st_bnd (st_bind n1 (st_bnd rfl)))
  rw [hX]
  rcases hat with ⟨p', pm', x, τ2, s2, D2, ops2, fl', fo', x1, ⟨x2, x3, x4, x5⟩, ⟨z1, z2, z3⟩, x7, ⟨y1, y2, y3⟩, x8, ⟨o1, o2⟩, nx, x9, x10⟩ | ⟨kd, pl, τ2, s2, x1, x2, x3, x4, x5, x6⟩
  · have hlt := chLt_keep hN n4 x2
    obtain ⟨hC1, hpt⟩ := n4.keep hN x2
    obtain ⟨τ3, b1, b2, b3, b4, b5, b6, b7, b8⟩ := hC1.add (n2.tr x2) rfl hN x3.2.2.2.2.2.1 (by simp) (x := x) (N1 := τ1 (-1) 0) (ch := 43) (ds := D2 ++ ops2) x5 (by omega) hlt (by omega)
    have hp' := x3.2.2.2.2.1
    have hG3 : xG T n τ3 p' := hG.of b2 b3 (by rw [b5]; exact x3.2.2.2.1) hp'
    have ht1 := tgf (τ := τ2) (t := 14) (new_fre hN) hC1.1.2
    have hcx1 : τ2 7 5 = ctx fl := ctx_ext x2 (by rw [n5]; exact hcx)
    have hFU := FU_ge
    have := sum_loop hA hkx hG hN (s0 := s) hW hW2 hb (k := k) (was := was) (M := mEf k was fi fo s) (c := τ (-1) 0) (n - p').toNat FU p' pm' τ3 s2 ([] ++ [x]) ([] ++ [43]) ([] ++ [D2 ++ ops2]) D2 ops2 fl' fo' (by omega) (by omega) (by omega) hG3 ⟨z1, z3⟩ (by rw [b5]; exact x4) (by rw [b5]; exact hcx1) b2 b4 (by simp) (by simp; omega) (by
      unfold rmo at *
      simp only [List.nil_append, List.length_singleton]
      omega) (by simp [joins]) ⟨y1, y2, y3⟩ x8 z2 hCW (fun y hy => by have := o1 y hy; omega) nx x9 x10
    refine Eq.mp (congrArg (fun X => SumR T n fl X τ p o (mEf k was fi fo s) s C W b k was) ?_) this
    exact (st_bind x1 (st_t rfl (st_gd ht1 (st_bind b1 (st_bnd rfl))))).symm
  · refine Or.inr ⟨kd, pl, τ2, s2, st_bind x1 (st_f n_10 rfl), x2.after n2, ?_, x4, x5, x6⟩
    unfold rmo at *
    omega
end
