set_option maxRecDepth 100000
/-! LAYER 2: both read a sum: products -/
def ctx (fl : Bool) : Int := if fl = true then 497 else 31
def tkf (fl : Bool) : Int := if fl = true then 1 else 0
theorem tkf_b (fl : Bool) : tkf fl = 0 ∨ tkf fl = 1 := by cases fl; exact Or.inl rfl; exact Or.inr rfl
def Dd (o : Int) : Nat := (3 * (6 - o)).toNat + 1
/-- what both do ahead of a part -/
def AtomR (T : Int → Int) (n : Int) (fl : Bool) (X : Option RX) (τ : XS) (p o : Int) (s : MS) (C W rs : List Int) (b : Int) (k : Int → MS → Option (Int × MS)) (was : Int) (fi fo : Nat) : Prop :=
  (∃ cs p' c τ' s' fl' fo', X = some (0, c, τ') ∧ (ext τ τ' ∧ xG T n τ' p' ∧ τ' 7 4 = o ∧ XV τ' (rg (τ (-1) 0) (τ' (-1) 0)) fl (Dd o) c cs) ∧ rn qB T n p < p' ∧ rmo (60 * (p' - p) - 20) (400 * (p' - p) - 200) τ τ' ∧ (mEf k was fi fo s = mAf k was fl' fo' s' ∧ only pks s s' ∧ mQ T n (tkf fl) s' p' (C ++ cs ++ rs) W b (o - rs.length)) ∧ (cs.length : Int) ≤ p' - rn qB T n p ∧ n - p' + 2 ≤ fl' ∧ n - p' + 2 ≤ fo') ∨
  (∃ kd pl τ' s', X = some (1, 0, τ') ∧ xB kd pl τ τ' ∧ rmo (60 * (n - p) + 20) (400 * (n - p) + 100) τ τ' ∧ mEf k was fi fo s = k was s' ∧ mBq kd pl s s' ∧ 1 ≤ kd ∧ kd ≤ 5)
def AtomOK (T : Int → Int) (n : Int) (fl : Bool) (r : Int) : Prop :=
  ∀ (kx : Nat) (p pm o : Int) (τ : XS) (s : MS) (C W rs : List Int) (b : Int) (k : Int → MS → Option (Int × MS)) (was : Int) (fi fo : Nat), n - p ≤ r → rn qB T n pm = rn qB T n p → 6 - o < kx → xG T n τ p → τ 7 4 = o → τ 7 5 = ctx fl → mQ T n (tkf fl) s pm C (W ++ rs.reverse) b o → s60 W b → (∀ y ∈ rs, 60 ≤ y) → (rs.length : Int) ≤ o → b ≤ W.length → (C.length + W.length + rs.length : Int) ≤ rn qB T n p → n - rn qB T n p + 2 ≤ fi → n - rn qB T n p + 2 ≤ fo → AtomR T n fl (x2_atom kx τ) τ p o s C W rs b k was fi fo
/-- a product, a sum: some signs still wait -/
def ProdR (T : Int → Int) (n : Int) (fl : Bool) (X : Option RX) (τ0 : XS) (p0 o : Int) (M : Option (Int × MS)) (s : MS) (C W : List Int) (b : Int) (k : Int → MS → Option (Int × MS)) (was : Int) : Prop :=
  (∃ p' pm' c τ' s' D ops fl' fo', X = some (0, c, τ') ∧ (ext τ0 τ' ∧ xG T n τ' p' ∧ τ' 7 4 = o ∧ XV τ' (rg (τ0 (-1) 0) (τ' (-1) 0)) fl (Dd o + 1) c (D ++ ops)) ∧ (rn qB T n pm' = p' ∧ rn qB T n p0 < pm' ∧ pm' ≤ p') ∧ rmo (60 * (p' - p0) - 13) (400 * (p' - p0) - 150) τ0 τ' ∧ (M = mAf k was fl' fo' s' ∧ only pks s s' ∧ mQ T n (tkf fl) s' pm' (C ++ D) (W ++ ops.reverse) b o) ∧ (D.length + ops.length : Int) ≤ pm' - rn qB T n p0 ∧ ((∀ y ∈ ops, y = 3 ∨ y = 4) ∧ ops.length ≤ 1) ∧ (bA T n p' ≠ 42 ∧ bA T n p' ≠ 47) ∧ n - pm' + 2 ≤ fl' ∧ n - pm' + 2 ≤ fo') ∨
  (∃ kd pl τ' s', X = some (1, 0, τ') ∧ xB kd pl τ0 τ' ∧ rmo (60 * (n - p0) + 25) (400 * (n - p0) + 130) τ0 τ' ∧ M = k was s' ∧ mBq kd pl s s' ∧ 1 ≤ kd ∧ kd ≤ 5)
def SumR (T : Int → Int) (n : Int) (fl : Bool) (X : Option RX) (τ0 : XS) (p0 o : Int) (M : Option (Int × MS)) (s : MS) (C W : List Int) (b : Int) (k : Int → MS → Option (Int × MS)) (was : Int) : Prop :=
  (∃ p' pm' c τ' s' D ops fl' fo', X = some (0, c, τ') ∧ (ext τ0 τ' ∧ xG T n τ' p' ∧ τ' 7 4 = o ∧ XV τ' (rg (τ0 (-1) 0) (τ' (-1) 0)) fl (Dd o + 2) c (D ++ ops)) ∧ (rn qB T n pm' = p' ∧ rn qB T n p0 < pm' ∧ pm' ≤ p') ∧ rmo (60 * (p' - p0) - 6) (400 * (p' - p0) - 100) τ0 τ' ∧ (M = mAf k was fl' fo' s' ∧ only pks s s' ∧ mQ T n (tkf fl) s' pm' (C ++ D) (W ++ ops.reverse) b o) ∧ (D.length + ops.length : Int) ≤ pm' - rn qB T n p0 ∧ (∀ y ∈ ops, 1 ≤ y ∧ y ≤ 4) ∧ nsg (bA T n p') ∧ n - pm' + 2 ≤ fl' ∧ n - pm' + 2 ≤ fo') ∨
  (∃ kd pl τ' s', X = some (1, 0, τ') ∧ xB kd pl τ0 τ' ∧ rmo (60 * (n - p0) + 30) (400 * (n - p0) + 160) τ0 τ' ∧ M = k was s' ∧ mBq kd pl s s' ∧ 1 ≤ kd ∧ kd ≤ 5)
theorem n_10 : ¬ (1 : Int) = 0 := by decide
theorem joins_snoc : ∀ (css : List (List Int)) (sg : List Int) (ds : List Int) (ch : Int), css.length = sg.length → 0 < sg.length → joins (css ++ [ds]) (((sg ++ [ch]).map cd).drop 1) = joins css ((sg.map cd).drop 1) ++ ds ++ [cd ch]
  | [], sg, _, _, h, h2 => by simp at h; omega
  | c :: css, [], _, _, h, h2 => by simp at h
  | c :: css, g :: sg, ds, ch, h, h2 => by
    have hl : css.length = sg.length := by simpa using h
    simp only [List.cons_append, joins, List.map_cons, List.drop_succ_cons, List.drop_zero, List.map_append, List.map_nil]
    rw [List.zip_append (by simp [hl]), List.flatMap_append]
    simp
theorem CH.done {τ : XS} {N0 : Int} {fl : Bool} {d : Nat} {c : Int} {es sg : List Int} {css : List (List Int)} (h : CH τ N0 fl d c es sg css) (h1 : 0 < es.length) : XV τ (rg N0 (τ (-1) 0)) fl (d + 1) c (joins css ((sg.map cd).drop 1)) := by
  obtain ⟨⟨h1', h2⟩, h3, h4, h5, ⟨h6, h6'⟩, h7, h8⟩ := h
  refine ⟨h1', Or.inr (Or.inr (Or.inr (Or.inr ⟨h2, es, sg, css, h3, h4, h1, h6, h6', h7, fun i x ds hi hj => XV_more (fun y hy => ?_) _ _ _ (h8 i x ds hi hj), rfl⟩)))⟩
  exact hy.1
theorem pot_b {τ : XS} {N0 : Int} {fl : Bool} {d : Nat} {c : Int} {es sg : List Int} {css : List (List Int)} (h : CH τ N0 fl d c es sg css) : pot τ c ≤ 12 * es.length + 48 := by
  obtain ⟨-, -, -, ⟨h5, h5'⟩, ⟨h6, h6'⟩, -⟩ := h
  unfold pot
  omega
section
variable {T : Int → Int} {n : Int} {fl : Bool}
theorem ctx_ext {τ τ' : XS} (he : ext τ τ') (h : τ 7 5 = ctx fl) : τ' 7 5 = ctx fl := by rw [he.2.2.2 5 (by decide) (by decide) (by decide)]; exact h
theorem s60_34 {W : List Int} {b x : Int} (hx : x < 60) : s60 (W ++ [x]) b := Or.inr ⟨W, x, rfl, hx⟩
theorem prod_loop {r : Int} (hA : AtomOK T n fl r) {kx : Nat} {o p0 : Int} (hkx : 6 - o < kx) {τ0 : XS} (hG0 : xG T n τ0 p0) (hN0 : 1514 ≤ τ0 (-1) 0) {s0 : MS} {C W : List Int} {b : Int} (hW : s34 W) (hW2 : s60 W b) (hb : b ≤ W.length) {k : Int → MS → Option (Int × MS)} {was : Int} {M : Option (Int × MS)} {c : Int} :
    ∀ (d fuel : Nat) (p : Int) (τ : XS) (s : MS) (es sg : List Int) (css : List (List Int)) (D ops : List Int) (gl go : Nat), (n - p).toNat ≤ d → d + 1 < fuel → n - p ≤ r → xG T n τ p → τ 7 4 = o → τ 7 5 = ctx fl → ext τ0 τ → CH τ (τ0 (-1) 0) fl (Dd o) c es sg css → 0 < es.length → (es.length : Int) ≤ p - rn qB T n p0 → rmo (60 * (p - p0) + 5 - 18 * es.length) (400 * (p - p0) - 13 + pot τ c - 200 * es.length) τ0 τ → joins css ((sg.map cd).drop 1) = D ++ ops → (M = mAf k was gl go s ∧ only pks s0 s ∧ mQ T n (tkf fl) s p (C ++ D) (W ++ ops.reverse) b o) → (D.length + ops.length : Int) ≤ p - rn qB T n p0 → rn qB T n p0 < p → (C.length + W.length : Int) ≤ rn qB T n p0 → ((∀ y ∈ ops, y = 3 ∨ y = 4) ∧ ops.length ≤ 1) → n - p + 2 ≤ gl → n - p + 2 ≤ go →
      ProdR T n fl (x2_product_L20 (x2_atom kx) (fun (x1_29 : Int) (s30 : XS) => some (0, x1_29, s30)) fuel c 1 τ) τ0 p0 o M s0 C W b k was := by
  intro d
  induction d with
  | zero =>
    intro fuel p τ s es sg css D ops gl go hd hf hr hG ho hcx he hC hes hes2 hrm hj hM hDl hpp hCW hops hgl hgo
    have hp := hG.2.2.2.2.1
    have hn := hG.1.1
    have hq : rn qB T n p = p := rn_stop (by rw [bA_out (by omega)]; exact qB_1)
    have hbA : bA T n p = -1 := bA_out (by omega)
    obtain ⟨f, rfl⟩ : ∃ f, fuel = f + 1 + 1 := ⟨fuel - 2, by omega⟩
    obtain ⟨t1, t2⟩ := takes_f hG (c := 42) (by omega) (by rw [hq, hbA]; decide)
    obtain ⟨t3, t4⟩ := takes_f t2 (c := 47) (by omega) (by rw [sk_sk, hq, hbA]; decide)
    rw [hq] at t1 t2 t3
    rw [hq, ux_ux] at t3
    rw [hq] at t4
    have e7 : ux τ 7 2 p = τ := ux_self hG.2.2.2.1
    rw [e7] at t1 t3
    have hpb := pot_b hC
    refine Or.inl ⟨p, p, c, τ, s, D, ops, gl, go, ?_, ⟨he, hG, ho, ?_⟩, ⟨hq, hpp, Int.le_refl _⟩, ?_, hM, hDl, hops, by rw [hbA]; decide, hgl, hgo⟩
    · rw [x2_product_L20]
      refine st_f n10 (st_bind t1 (st_t i32_0 (st_bind t3 (st_t i32_0 (st_bnd ?_)))))
      rw [x2_product_L20]
      exact if_pos i32_0
    · rw [← hj]; exact hC.done hes
    · unfold rmo at *; omega
  | succ d ih =>
    intro fuel p τ s es sg css D ops gl go hd hf hr hG ho hcx he hC hes hes2 hrm hj hM hDl hpp hCW hops hgl hgo
    have hp := hG.2.2.2.2.1
    have hn := hG.1.1
    have hsk := sk_b hG
    have hle := rn_le (q := qB) (T := T) (n := n) p
    have hpb := pot_b hC
    obtain ⟨f, rfl⟩ : ∃ f, fuel = f + 1 + 1 := ⟨fuel - 2, by omega⟩
    by_cases hc : bA T n (rn qB T n p) = 42 ∨ bA T n (rn qB T n p) = 47
    · -- one more part
      have hin := bA_at (T := T) (n := n) (p := rn qB T n p) (by omega)
      obtain ⟨gl', rfl⟩ : ∃ g, gl = g + 1 := ⟨gl - 1, by omega⟩
      obtain ⟨go', rfl⟩ : ∃ g, go = g + 1 := ⟨go - 1, by omega⟩
      obtain ⟨hM1, hM2, hM3⟩ := hM
      obtain ⟨s1, a1, a2, a3⟩ := A_times (k := k) (was := was) (fl := gl') (fo := go') hM3 (by rw [List.length_append]; omega) hc hW hops.1 hb
      have hG1 := hG.to (q := rn qB T n p + 1) (by omega)
      have he1 : ext τ0 (ux τ 7 2 (rn qB T n p + 1)) := he.u7 (Or.inl rfl)
      have heτ : ext τ (ux τ 7 2 (rn qB T n p + 1)) := ext.rf.u7 (Or.inl rfl)
      have hle1 := rn_le (q := qB) (T := T) (n := n) (rn qB T n p + 1)
      have hN1 : ux τ 7 2 (rn qB T n p + 1) (-1) = τ (-1) := ux_cell (by decide)
      have hFU := FU_ge
      have hcd : cd (bA T n (rn qB T n p)) = 3 ∨ cd (bA T n (rn qB T n p)) = 4 := by rcases hc with h | h <;> rw [h]; exact Or.inl rfl; exact Or.inr rfl
      have hat := hA kx (rn qB T n p + 1) (rn qB T n p + 1) o (ux τ 7 2 (rn qB T n p + 1)) s1 (C ++ D ++ ops) (W ++ [cd (bA T n (rn qB T n p))]) [] b k was FU go' (by omega) rfl hkx hG1 (by rw [ux_i _ _ _ _ (by decide)]; exact ho) (by rw [ux_i _ _ _ _ (by decide)]; exact hcx) (by simpa using a3) (s60_34 (by omega)) (by simp) (by simp; have := hM3.2.2.2.2.1; omega) (by rw [List.length_append, List.length_singleton]; omega) (by simp; omega) (by omega) (by omega)
      have hXt : x2_product_L20 (x2_atom kx) (fun (x1_29 : Int) (s30 : XS) => some (0, x1_29, s30)) (f + 1 + 1) c 1 τ = Option.bind (x2_atom kx (ux τ 7 2 (rn qB T n p + 1))) (fun z25 => if z25.1 = 0 then gd (tg true z25.2.2 c = 14) <| Option.bind (x17_add true c (bA T n (rn qB T n p)) z25.2.1 z25.2.2) (fun z27 => x2_product_L20 (x2_atom kx) (fun (x1_29 : Int) (s30 : XS) => some (0, x1_29, s30)) (f + 1) c 1 z27.2) else some (1, 0, z25.2.2)) := by
        rw [x2_product_L20]
        rcases hc with hc | hc
        · obtain ⟨t1, -⟩ := takes_t hG (c := 42) (by omega) hc
          rw [hc]
          exact st_f n10 (st_bind t1 (st_f n10 rfl))
        · obtain ⟨t1, t2⟩ := takes_f hG (c := 42) (by omega) (by omega)
          obtain ⟨t3, -⟩ := takes_t t2 (c := 47) (by omega) (by rw [sk_sk]; exact hc)
          rw [sk_sk, ux_ux] at t3
          rw [hc]
          exact st_f n10 (st_bind t1 (st_t i32_0 (st_bind t3 (st_f n10 rfl))))
      rw [hXt]
      rcases hat with ⟨cs, p', x, τ1, s2, fl', fo', x1, ⟨x2, x3, x4, x5⟩, x6, x7, ⟨y1, y2, y3⟩, x8, x9, x10⟩ | ⟨kd, pl, τ1, s2, x1, x2, x3, x4, x5, x6⟩
      · -- the part is read
        rw [hN1] at x5
        have hlt := chLt_keep hN0 hC (heτ.tr x2)
        obtain ⟨hC1, hpt⟩ := hC.keep hN0 (heτ.tr x2)
        have hch : bA T n (rn qB T n p) = 43 ∨ bA T n (rn qB T n p) = 45 ∨ bA T n (rn qB T n p) = 42 ∨ bA T n (rn qB T n p) = 47 := by omega
        obtain ⟨τ2, b1, b2, b3, b4, b5, b6, b7, b8⟩ := hC1.add (he1.tr x2) rfl hN0 x3.2.2.2.2.2.1 (by omega) (x := x) (N1 := τ (-1) 0) (ch := bA T n (rn qB T n p)) (ds := cs) x5 (by have := he.1.1; omega) hlt hch
        have hp' := x3.2.2.2.2.1
        have x34 : τ1 7 2 = p' := x3.2.2.2.1
        have hG2 : xG T n τ2 p' := hG0.of b2 b3 (by rw [b5]; exact x34) hp'
        have ht1 := tgf (τ := τ1) (t := 14) (new_fre (show 1514 ≤ c by have := hC1.1.1.1; omega)) hC1.1.2
        have hcx1 : τ1 7 5 = ctx fl := ctx_ext x2 (by rw [ux_i _ _ _ _ (by decide)]; exact hcx)
        have := ih (f + 1) p' τ2 s2 (es ++ [x]) (sg ++ [bA T n (rn qB T n p)]) (css ++ [cs]) (D ++ ops ++ cs) [cd (bA T n (rn qB T n p))] fl' fo' (by omega) (by omega) (by omega) hG2 (by rw [b5]; exact x4) (by rw [b5]; exact hcx1) b2 b4 (by simp) (by rw [List.length_append, List.length_singleton]; omega) (by
          unfold rmo at *
          rw [hN1] at x7
          rw [List.length_append, List.length_singleton]
          omega) (by
          rw [joins_snoc css sg cs _ (by have := hC.2.2.2.2.1; omega) (by have := hC.2.2.2.2.1; omega), hj]) ⟨hM1.trans (a1.trans y1), hM2.tr (a2.tr y2), by
          rw [List.append_nil, List.length_nil] at y3
          simpa [List.append_assoc] using y3⟩ (by simp; omega) (by omega) hCW ⟨by simp; omega, by simp⟩ x9 x10
        refine Eq.mp (congrArg (fun X => ProdR T n fl X τ0 p0 o M s0 C W b k was) ?_) this
        exact (st_bind x1 (st_t rfl (st_gd ht1 (st_bind b1 rfl)))).symm
      · refine Or.inr ⟨kd, pl, τ1, s2, st_bind x1 (st_f n_10 rfl), x2.after he1, ?_, hM1.trans (a1.trans x4), ⟨hM2.tr (a2.tr x5.1), x5.2⟩, x6⟩
        unfold rmo at *
        rw [hN1] at x3
        omega
    · obtain ⟨t1, t2⟩ := takes_f hG (c := 42) (by omega) (by omega)
      obtain ⟨t3, t4⟩ := takes_f t2 (c := 47) (by omega) (by rw [sk_sk]; omega)
      rw [sk_sk, ux_ux] at t3
      have heτ : ext τ (ux τ 7 2 (rn qB T n p)) := ext.rf.u7 (Or.inl rfl)
      obtain ⟨hC1, hpt⟩ := hC.keep hN0 heτ
      have hN1 : ux τ 7 2 (rn qB T n p) (-1) = τ (-1) := ux_cell (by decide)
      refine Or.inl ⟨rn qB T n p, p, c, ux τ 7 2 (rn qB T n p), s, D, ops, gl, go, ?_, ⟨he.u7 (Or.inl rfl), t2, by rw [ux_i _ _ _ _ (by decide)]; exact ho, ?_⟩, ⟨rfl, hpp, hle⟩, ?_, hM, hDl, hops, by omega, hgl, hgo⟩
      · rw [x2_product_L20]
        refine st_f n10 (st_bind t1 (st_t i32_0 (st_bind t3 (st_t i32_0 (st_bnd ?_)))))
        rw [x2_product_L20]
        exact if_pos i32_0
      · rw [← hj]; exact hC1.done hes
      · unfold rmo at *
        rw [hN1]
        omega
theorem prod_ok {r : Int} (hA : AtomOK T n fl r) (kx : Nat) (p pm o : Int) (τ : XS) (s : MS) (C W : List Int) (b : Int) (k : Int → MS → Option (Int × MS)) (was : Int) (fi fo : Nat) (hr : n - p ≤ r) (hpm : rn qB T n pm = rn qB T n p) (hkx : 6 - o < kx) (hG : xG T n τ p) (ho : τ 7 4 = o) (hcx : τ 7 5 = ctx fl) (hQ : mQ T n (tkf fl) s pm C W b o) (hW : s34 W) (hW2 : s60 W b) (hb : b ≤ W.length) (hCW : (C.length + W.length : Int) ≤ rn qB T n p) (hfi : n - rn qB T n p + 2 ≤ fi) (hfo : n - rn qB T n p + 2 ≤ fo) :
    ProdR T n fl (x2_product (x2_atom kx) τ) τ p o (mEf k was fi fo s) s C W b k was := by
  have hal := hG.2.2.2.2.2.1
  have hN := hal.1
  have hS := hal.2.1
  have hp := hG.2.2.2.2.1
  have hn := hG.1.1
  have hle := rn_le (q := qB) (T := T) (n := n) p
  have hsk := sk_b hG
  obtain ⟨τ1, n1, n2, n3, n4, n5, n6, n7, n8, n9⟩ := newChain_ev hal fl (Dd o)
  have hG1 : xG T n τ1 p := hG.of n2 n3 (by rw [n5]; exact hG.2.2.2.1) hp
  have ho6 := hQ.2.2.2.2.1
  have hat := hA kx p pm o τ1 s C W [] b k was fi fo hr hpm hkx hG1 (by rw [n5]; exact ho) (by rw [n5]; exact hcx) (by simpa using hQ) hW2 (by simp) (by simp; omega) hb (by simp; omega) hfi hfo
  have hX : x2_product (x2_atom kx) τ = Option.bind (x2_atom kx τ1) (fun z5 => if z5.1 = 0 then gd (tg true z5.2.2 (τ (-1) 0) = 14) <| Option.bind (x17_add true (τ (-1) 0) 42 z5.2.1 z5.2.2) (fun z7 => bnd 1 fun x2_9 => x2_product_L20 (x2_atom kx) (fun (x1_29 : Int) (s30 : XS) => some (0, x1_29, s30)) FU (τ (-1) 0) x2_9 z7.2) else some (1, 0, z5.2.2)) := by
    unfold x2_product
    exact st_gd ⟨by omega, hS⟩ (st_bnd (st_bind n1 (st_bnd rfl)))
  rw [hX]
  rcases hat with ⟨cs, p', x, τ2, s2, fl', fo', x1, ⟨x2, x3, x4, x5⟩, x6, x7, ⟨y1, y2, y3⟩, x8, x9, x10⟩ | ⟨kd, pl, τ2, s2, x1, x2, x3, x4, x5, x6⟩
  · have hlt := chLt_keep hN n4 x2
    obtain ⟨hC1, hpt⟩ := n4.keep hN x2
    obtain ⟨τ3, b1, b2, b3, b4, b5, b6, b7, b8⟩ := hC1.add (n2.tr x2) rfl hN x3.2.2.2.2.2.1 (by simp) (x := x) (N1 := τ1 (-1) 0) (ch := 42) (ds := cs) x5 (by omega) hlt (by omega)
    have hp' := x3.2.2.2.2.1
    have hG3 : xG T n τ3 p' := hG.of b2 b3 (by rw [b5]; exact x3.2.2.2.1) hp'
    have ht1 := tgf (τ := τ2) (t := 14) (new_fre hN) hC1.1.2
    have hcx1 : τ2 7 5 = ctx fl := ctx_ext x2 (by rw [n5]; exact hcx)
    have hFU := FU_ge
    have := prod_loop hA hkx hG hN (s0 := s) hW hW2 hb (k := k) (was := was) (M := mEf k was fi fo s) (c := τ (-1) 0) (n - p').toNat FU p' τ3 s2 ([] ++ [x]) ([] ++ [42]) ([] ++ [cs]) cs [] fl' fo' (by omega) (by omega) (by omega) hG3 (by rw [b5]; exact x4) (by rw [b5]; exact hcx1) b2 b4 (by simp) (by simp; omega) (by
      unfold rmo at *
      simp only [List.nil_append, List.length_singleton]
      omega) (by simp [joins]) ⟨y1, y2, by simpa using y3⟩ (by simp; omega) (by omega) hCW ⟨by simp, by simp⟩ x9 x10
    refine Eq.mp (congrArg (fun X => ProdR T n fl X τ p o (mEf k was fi fo s) s C W b k was) ?_) this
    exact (st_bind x1 (st_t rfl (st_gd ht1 (st_bind b1 (st_bnd rfl))))).symm
  · refine Or.inr ⟨kd, pl, τ2, s2, st_bind x1 (st_f n_10 rfl), x2.after n2, ?_, x4, x5, x6⟩
    unfold rmo at *
    omega
end
