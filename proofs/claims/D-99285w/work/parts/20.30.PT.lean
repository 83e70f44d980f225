set_option maxRecDepth 100000
/-! LAYER 2: both read tests: facts joined -/
/-- a fault has come, whatever was written -/
def mBw (k pl : Int) (s s' : MS) : Prop := only pks s s' ∧ s' 5 0 = k ∧ s' 6 0 = pl
theorem mBq.w {k pl : Int} {s s' : MS} (h : mBq k pl s s') : mBw k pl s s' := ⟨h.1, h.2.1, h.2.2.1⟩
def wlq (T : Int → Int) (n p : Int) : Int := rn qL T n (rn qB T n p) - rn qB T n p
def FactR (T : Int → Int) (n : Int) (fl : Bool) (X : Option RX) (τ : XS) (p o : Int) (M : Option (Int × MS)) (s : MS) (C W rs : List Int) (k : MS → Option (Int × MS)) : Prop :=
  (∃ cs p' c τ' s' gl go, X = some (0, c, τ') ∧ (ext τ τ' ∧ xG T n τ' p' ∧ τ' 7 4 = o ∧ XT τ' (rg (τ (-1) 0) (τ' (-1) 0)) fl (DT o) c cs) ∧ rn qB T n p < p' ∧ rmo (60 * (p' - p) - 30) (500 * (p' - p) - 100) τ τ' ∧ (M = mUf k gl go s' ∧ only pks s s' ∧ mQ T n (tkf fl) s' p' (C ++ cs ++ rs) W 0 (o - rs.length)) ∧ (cs.length : Int) ≤ p' - rn qB T n p ∧ n - p' + 3 ≤ gl ∧ n - p' + 3 ≤ go) ∨
  (∃ kd pl τ' s', X = some (1, 0, τ') ∧ xB kd pl τ τ' ∧ rmo (60 * (n - p) + 60) (500 * (n - p) + 200) τ τ' ∧ M = k s' ∧ mBw kd pl s s' ∧ 1 ≤ kd ∧ kd ≤ 5)
def FactOK (T : Int → Int) (n : Int) (fl : Bool) (r : Int) : Prop :=
  ∀ (kx : Nat) (p pm o : Int) (τ : XS) (s : MS) (C W rs : List Int) (k : MS → Option (Int × MS)) (fo : Nat), n - p ≤ r → rn qB T n pm = rn qB T n p → 6 - o < kx → xG T n τ p → τ 7 4 = o → τ 7 5 = ctx fl → mQ T n (tkf fl) s pm C (W ++ rs.reverse) 0 o → s12 W → (∀ y ∈ W, 10 ≤ y) → (∀ y ∈ rs, y = 12) → (rs.length : Int) ≤ o → (C.length + W.length + rs.length : Int) ≤ rn qB T n p → n - rn qB T n p + 3 ≤ fo → FactR T n fl (x2_fact kx τ) τ p o (mTf k fo s) s C W rs k
/-- a word runs on behind a number: the system finds the fault at once, the reference at the next sign -/
def PendR (T : Int → Int) (n : Int) (fl : Bool) (X : Option RX) (τ0 : XS) (c0 s0 p0 : Int) (M : Option (Int × MS)) (s : MS) (C W : List Int) (k : MS → Option (Int × MS)) : Prop :=
  ∃ q τ' s' Cx Wx ox, X = some (1, 0, τ') ∧ xB 1 q τ0 τ' ∧ rmo c0 s0 τ0 τ' ∧ (M = k s' ∧ only pks s s' ∧ mQ T n (tkf fl) s' q Cx Wx 0 ox) ∧ (rn qB T n q = q ∧ qL (bA T n q) = true ∧ pd T n q = true) ∧ ¬ 25 ∈ W ∧ (Cx.length + Wx.length : Int) ≤ 1650 ∧ (Cx.length + Wx.length : Int) ≤ C.length + W.length + (q - rn qB T n p0)
def BothR (T : Int → Int) (n : Int) (fl : Bool) (X : Option RX) (τ0 : XS) (p0 o : Int) (M : Option (Int × MS)) (s : MS) (C W : List Int) (k : MS → Option (Int × MS)) : Prop :=
  (∃ p' pm' c τ' s' D ops gl go, X = some (0, c, τ') ∧ (ext τ0 τ' ∧ xG T n τ' p' ∧ τ' 7 4 = o ∧ XT τ' (rg (τ0 (-1) 0) (τ' (-1) 0)) fl (DT o + 1) c (D ++ ops)) ∧ (rn qB T n pm' = rn qB T n p' ∧ rn qB T n p0 < pm' ∧ pm' ≤ p' ∧ p' ≤ rn qB T n pm') ∧ rmo (60 * (p' - p0) - 23) (500 * (p' - p0) - 70 + 2 * wlq T n p') τ0 τ' ∧ (M = mUf k gl go s' ∧ only pks s s' ∧ mQ T n (tkf fl) s' pm' (C ++ D) (W ++ ops.reverse) 0 o) ∧ (D.length + ops.length : Int) ≤ pm' - rn qB T n p0 ∧ (∀ y ∈ ops, y = 10) ∧ (hereW T n (rn qB T n p') (wo 80) = false ∧ (qL (bA T n (rn qB T n p')) = true → pd T n (rn qB T n p') = false)) ∧ n - pm' + 3 ≤ gl ∧ n - pm' + 3 ≤ go) ∨
  (∃ kd pl τ' s', X = some (1, 0, τ') ∧ xB kd pl τ0 τ' ∧ rmo (60 * (n - p0) + 66) (500 * (n - p0) + 215) τ0 τ' ∧ M = k s' ∧ mBw kd pl s s' ∧ 1 ≤ kd ∧ kd ≤ 5) ∨
  PendR T n fl X τ0 (60 * (n - p0) + 66) (500 * (n - p0) + 215) p0 M s C W k
def TestR (T : Int → Int) (n : Int) (fl : Bool) (X : Option RX) (τ0 : XS) (p0 o : Int) (M : Option (Int × MS)) (s : MS) (C W : List Int) (k : MS → Option (Int × MS)) : Prop :=
  (∃ p' pm' c τ' s' D ops gl go, X = some (0, c, τ') ∧ (ext τ0 τ' ∧ xG T n τ' p' ∧ τ' 7 4 = o ∧ XT τ' (rg (τ0 (-1) 0) (τ' (-1) 0)) fl (DT o + 2) c (D ++ ops)) ∧ (rn qB T n pm' = rn qB T n p' ∧ rn qB T n p0 < pm' ∧ pm' ≤ p' ∧ p' ≤ rn qB T n pm') ∧ rmo (60 * (p' - p0) - 16) (500 * (p' - p0) - 40 + 4 * wlq T n p') τ0 τ' ∧ (M = mUf k gl go s' ∧ only pks s s' ∧ mQ T n (tkf fl) s' pm' (C ++ D) (W ++ ops.reverse) 0 o) ∧ (D.length + ops.length : Int) ≤ pm' - rn qB T n p0 ∧ (∀ y ∈ ops, y = 10 ∨ y = 11) ∧ (hereW T n (rn qB T n p') (wo 80) = false ∧ hereW T n (rn qB T n p') (wo 81) = false) ∧ n - pm' + 3 ≤ gl ∧ n - pm' + 3 ≤ go) ∨
  (∃ kd pl τ' s', X = some (1, 0, τ') ∧ xB kd pl τ0 τ' ∧ rmo (60 * (n - p0) + 72) (500 * (n - p0) + 230) τ0 τ' ∧ M = k s' ∧ mBw kd pl s s' ∧ 1 ≤ kd ∧ kd ≤ 5) ∨
  PendR T n fl X τ0 (60 * (n - p0) + 72) (500 * (n - p0) + 230) p0 M s C W k
section
variable {T : Int → Int} {n : Int} {fl : Bool}
theorem hereW_no {q : Int} (h : qL (bA T n q) = false) (w : List Int) : hereW T n q w = false := by unfold hereW; rw [h]; rfl
theorem hereW_pd {q : Int} (h : pd T n q = true) (w : List Int) : hereW T n q w = false := by unfold hereW; rw [h]; cases qL (bA T n q) <;> rfl
theorem hereW_dec {q : Int} (h : qL (bA T n q) = true) (h2 : pd T n q = false) (w : List Int) : hereW T n q w = decide (wrd T n q = w) := by unfold hereW; rw [h, h2]; simp
theorem wlq_b {p : Int} (hn : p ≤ n) : 0 ≤ wlq T n p ∧ wlq T n p ≤ n - rn qB T n p := by
  unfold wlq
  have h1 := rn_le (q := qL) (T := T) (n := n) (rn qB T n p)
  have h2 := rn_hi (q := qL) (T := T) (p := rn qB T n p) qL_1 (rn_hi qB_1 hn)
  omega
theorem wlq_sk (p : Int) : wlq T n (rn qB T n p) = wlq T n p := by unfold wlq; rw [sk_sk]
/-- a word is passed: what can come of it -/
theorem passes_all {p : Int} {τ : XS} (hG : xG T n τ p) {q : Int × List Int} (hq : q ∈ csl) :
    (qL (bA T n (rn qB T n p)) = true ∧ pd T n (rn qB T n p) = true ∧ ∃ τ', x2_passes (τ (-1) q.1) τ = some (1, 0, τ') ∧ xB 1 (rn qB T n p) τ τ' ∧ rmo 0 0 τ τ') ∨
    (hereW T n (rn qB T n p) q.2 = true ∧ ∃ τ', x2_passes (τ (-1) q.1) τ = some (0, 1, τ') ∧ ext τ τ' ∧ xG T n τ' (rn qL T n (rn qB T n p)) ∧ τ' 7 3 = rn qB T n p ∧ τ' 7 4 = τ 7 4 ∧ rmo 3 (4 + 2 * wlq T n p) τ τ') ∨
    (hereW T n (rn qB T n p) q.2 = false ∧ (qL (bA T n (rn qB T n p)) = true → pd T n (rn qB T n p) = false) ∧ ∃ p' τ', x2_passes (τ (-1) q.1) τ = some (0, 0, τ') ∧ ext τ τ' ∧ xG T n τ' p' ∧ (p ≤ p' ∧ p' ≤ rn qB T n p ∧ rn qB T n p' = rn qB T n p) ∧ τ' 7 4 = τ 7 4 ∧ rmo 3 (4 + 2 * wlq T n p) τ τ') := by
  have hle := rn_le (q := qB) (T := T) (n := n) p
  have hwl := wlq_b (T := T) hG.2.2.2.2.1.2
  cases c1 : qL (bA T n (rn qB T n p)) with
  | false =>
    refine Or.inr (Or.inr ⟨hereW_no c1 _, (fun h => by cases h), rn qB T n p, ux τ 7 2 (rn qB T n p), passes_no hG c1, ext.rf.u7 (Or.inl rfl), hG.to (sk_b hG), ⟨hle, Int.le_refl _, sk_sk T n p⟩, by rw [ux_i _ _ _ _ (by decide)], ?_⟩)
    unfold rmo
    rw [u7_N, u7_N]
    omega
  | true =>
    cases c2 : pd T n (rn qB T n p) with
    | true =>
      obtain ⟨τ', a1, a2, a3⟩ := passes_bad hG (c := τ (-1) q.1) c1 c2
      exact Or.inl ⟨rfl, rfl, τ', a1, a2, a3⟩
    | false =>
      by_cases c3 : wrd T n (rn qB T n p) = q.2
      · have hw : hereW T n (rn qB T n p) q.2 = true := by rw [hereW_dec c1 c2]; simp [c3]
        obtain ⟨τ', a1, a2, a3, a4, a5, a6⟩ := passes_t hG hq hw
        exact Or.inr (Or.inl ⟨hw, τ', a1, a2, a3, a4, a5, a6⟩)
      · have hw : hereW T n (rn qB T n p) q.2 = false := by rw [hereW_dec c1 c2]; simp [c3]
        obtain ⟨τ', a1, a2, a3, a4, a5⟩ := passes_f hG hq c1 c2 c3
        exact Or.inr (Or.inr ⟨hw, fun _ => rfl, p, τ', a1, a2, a3, ⟨Int.le_refl _, hle, rfl⟩, a4, a5⟩)
theorem mem_ops {W ops : List Int} (h : ∀ y ∈ ops, y ≠ 25) : 25 ∈ W ++ ops.reverse ↔ 25 ∈ W := by
  rw [List.mem_append]
  constructor
  · rintro (h1 | h1)
    · exact h1
    · exact absurd rfl (h 25 (List.mem_reverse.mp h1))
  · exact Or.inl
theorem both_loop {r : Int} (hA : FactOK T n fl r) {kx : Nat} {o p0 : Int} (hkx : 6 - o < kx) {τ0 : XS} (hG0 : xG T n τ0 p0) (hN0 : 1514 ≤ τ0 (-1) 0) {s0 : MS} {C W : List Int} (hW : s10 W) (hW10 : ∀ y ∈ W, 10 ≤ y) {k : MS → Option (Int × MS)} {M : Option (Int × MS)} {c : Int} :
    ∀ (d fuel : Nat) (p : Int) (τ : XS) (s : MS) (es : List Int) (css : List (List Int)) (D ops : List Int) (gl go : Nat), (n - p).toNat ≤ d → d + 1 < fuel → n - p ≤ r → xG T n τ p → τ 7 4 = o → τ 7 5 = ctx fl → ext τ0 τ → FC τ (τ0 (-1) 0) fl (DT o) c 1 es css → 0 < es.length → (es.length : Int) ≤ p - rn qB T n p0 → rmo (60 * (p - p0) + 3 - 29 * es.length) (500 * (p - p0) - 1 + potF τ c - 100 * es.length) τ0 τ → joins css (List.replicate (css.length - 1) 10) = D ++ ops → (M = mUf k gl go s ∧ only pks s0 s ∧ mQ T n (tkf fl) s p (C ++ D) (W ++ ops.reverse) 0 o) → (D.length + ops.length : Int) ≤ p - rn qB T n p0 → rn qB T n p0 < p → (C.length + W.length : Int) ≤ rn qB T n p0 → (∀ y ∈ ops, y = 10) → n - p + 3 ≤ gl → n - p + 3 ≤ go →
      BothR T n fl (x2_both_L23 (x2_fact kx) (fun (x1_24 : Int) (s25 : XS) => some (0, x1_24, s25)) fuel c τ) τ0 p0 o M s0 C W k := by
  intro d
  induction d with
  | zero =>
    intro fuel p τ s es css D ops gl go hd hf hr hG ho hcx he hC hes hes2 hrm hj hM hDl hpp hCW hops hgl hgo
    have hp := hG.2.2.2.2.1
    have hq : rn qB T n p = p := rn_stop (by rw [bA_out (by omega)]; exact qB_1)
    have hbA : bA T n p = -1 := bA_out (by omega)
    have hqL : qL (bA T n (rn qB T n p)) = false := by rw [hq, hbA]; rfl
    obtain ⟨f, rfl⟩ : ∃ f, fuel = f + 1 := ⟨fuel - 1, by omega⟩
    have hps := passes_no hG (c := τ (-1) 136) hqL
    rw [hq, ux_self hG.2.2.2.1] at hps
    have hpb := potF_b hC
    have hwl := wlq_b (T := T) hp.2
    refine Or.inl ⟨p, p, c, τ, s, D, ops, gl, go, ?_, ⟨he, hG, ho, ?_⟩, ⟨rfl, hpp, Int.le_refl _, by omega⟩, ?_, hM, hDl, hops, ⟨hereW_no hqL _, fun h => by rw [hqL] at h; cases h⟩, hgl, hgo⟩
    · rw [x2_both_L23]
      exact st_bind hps (st_t rfl (st_t i32_0 rfl))
    · rw [← hj]; exact hC.done hes
    · unfold rmo at *; omega
  | succ d ih =>
    intro fuel p τ s es css D ops gl go hd hf hr hG ho hcx he hC hes hes2 hrm hj hM hDl hpp hCW hops hgl hgo
    have hp := hG.2.2.2.2.1
    have hn := hG.1.1
    have hsk := sk_b hG
    have hle := rn_le (q := qB) (T := T) (n := n) p
    have hpb := potF_b hC
    have hwl := wlq_b (T := T) hp.2
    have h25 : 25 ∈ W ++ ops.reverse ↔ 25 ∈ W := mem_ops (fun y hy => by have := hops y hy; omega)
    obtain ⟨f, rfl⟩ : ∃ f, fuel = f + 1 := ⟨fuel - 1, by omega⟩
    obtain ⟨gl, rfl⟩ : ∃ g, gl = g + 1 := ⟨gl - 1, by omega⟩
    obtain ⟨hM1, hM2, hM3⟩ := hM
    rcases passes_all hG (q := (136, [97, 110, 100])) (by decide) with ⟨c1, c2, τ1, a1, a2, a3⟩ | ⟨hw, τ1, a1, a2, a3, a4, a5, a6⟩ | ⟨hw, hpd, p', τ1, a1, a2, a3, ⟨a4, a5, a6⟩, a7, a8⟩
    · -- a word runs on
      obtain ⟨go, rfl⟩ : ∃ g, go = g + 1 := ⟨go - 1, by omega⟩
      have hX : x2_both_L23 (x2_fact kx) (fun (x1_24 : Int) (s25 : XS) => some (0, x1_24, s25)) (f + 1) c τ = some (1, 0, τ1) := by
        rw [x2_both_L23]
        exact st_bind a1 (st_f n_10 rfl)
      obtain ⟨u1, u2⟩ := U_off (k := k) (fl := gl) (fo := go) hM3 (by rw [List.length_append]; omega) (by simp; omega) (hereW_pd c2 _) (hereW_pd c2 _)
      have hrm' : rmo (60 * (n - p0) + 66) (500 * (n - p0) + 215) τ0 τ1 := by unfold rmo at *; omega
      by_cases hm : 25 ∈ W
      · obtain ⟨s', v1, v2⟩ := u2 (h25.mpr hm) (by rw [qL_t] at c1; omega)
        exact Or.inr (Or.inl ⟨1, _, τ1, s', hX, a2.after he, hrm', hM1.trans v1, ⟨hM2.tr v2.1, v2.w.2⟩, by omega, by omega⟩)
      · obtain ⟨s', v1, v2, v3⟩ := u1 (fun h => hm (h25.mp h))
        exact Or.inr (Or.inr ⟨_, τ1, s', _, _, _, hX, a2.after he, hrm', ⟨hM1.trans v1, hM2.tr v2, v3⟩, ⟨sk_sk T n p, c1, c2⟩, hm, by simp; omega, by simp; omega⟩)
    · -- and
      obtain ⟨s1, u1, u2, u3⟩ := U_and (k := k) (fl := gl) (fo := go) hM3 (by rw [List.length_append]; omega) hw hW hops (by omega)
      have hc1 := (hereW_at hw).1
      have hr' := rn_hi (q := qL) (T := T) qL_1 hsk.2
      have hr2 := rn_lt (q := qL) (T := T) (n := n) qL_1 hc1
      have hw3 : wlq T n p = 3 := by
        have := ((wdl_eq (rn_le (q := qL) (T := T) (n := n) (rn qB T n p))).mp (hereW_at hw).2.2).1
        unfold wlq
        rw [this]; rfl
      have hle2 := rn_le (q := qB) (T := T) (n := n) (rn qL T n (rn qB T n p))
      have hwe : rn qL T n (rn qB T n p) = rn qB T n p + 3 := by unfold wlq at hw3; omega
      have hat := hA kx (rn qL T n (rn qB T n p)) (rn qL T n (rn qB T n p)) o τ1 s1 (C ++ D ++ ops) (W ++ [10]) [] k go (by omega) rfl hkx a3 (by rw [a5]; exact ho) (ctx_ext a2 hcx) (by simpa using u3) (Or.inr ⟨W, 10, rfl, by decide⟩) (by
        intro y hy
        rcases List.mem_append.mp hy with hy | hy
        · exact hW10 y hy
        · rw [List.mem_singleton.mp hy]; omega) (by simp) (by simp; have := hM3.2.2.2.2.1; omega) (by simp; omega) (by omega)
      obtain ⟨hC1, hpt, hl0⟩ := hC.keep hN0 a2
      have hN1 := a2.1.1
      have ht1 := tgf (τ := τ1) (t := 11) (new_fre (show 1514 ≤ c by have := hC1.1.1.1; omega)) hC1.1.2
      have hlr : 1514 ≤ τ1 c 0 := by have := hC1.2.2.1.1.1; unfold rg at this; omega
      rcases hat with ⟨cs, p', x, τ2, s2, gl', go', x1, ⟨x2, x3, x4, x5⟩, x6, x7, ⟨y1, y2, y3⟩, x8, x9, x10⟩ | ⟨kd, pl, τ2, s2, x1, x2, x3, x4, x5, x6⟩
      · have hlt := fcLt_keep hN0 hC1 x2
        obtain ⟨hC2, hpt2, hl1⟩ := hC1.keep hN0 x2
        obtain ⟨τ3, b1, b2, b3, b4, b5, b6, b7, b8⟩ := hC2.add ((he.tr a2).tr x2) rfl hN0 x3.2.2.2.2.2.1 (by omega) (x := x) (N1 := τ1 (-1) 0) (ds := cs) x5 (by have := he.1.1; omega) hlt
        have hp' := x3.2.2.2.2.1
        have hG2 : xG T n τ3 p' := hG0.of b2 b3 (by rw [b5]; exact x3.2.2.2.1) hp'
        have ht2 := tgf (τ := τ2) (t := 21) (new_fre hlr) (by rw [← hl1]; exact hC2.2.2.1.1.2)
        rw [hl1] at b1
        have := ih f p' τ3 s2 (es ++ [x]) (css ++ [cs]) (D ++ ops ++ cs) [10] gl' go' (by omega) (by omega) (by omega) hG2 (by rw [b5]; exact x4) (by rw [b5]; exact ctx_ext x2 (ctx_ext a2 hcx)) b2 b4 (by simp) (by rw [List.length_append, List.length_singleton]; omega) (by
          unfold rmo at *
          rw [List.length_append, List.length_singleton]
          omega) (by
          rw [joinsR_snoc css cs 10 (by have := hC.2.2.2.2.1; omega), hj]) ⟨hM1.trans (u1.trans y1), hM2.tr (u2.tr y2), by
          rw [List.append_nil, List.length_nil] at y3
          simpa [List.append_assoc] using y3⟩ (by simp; omega) (by omega) hCW (by simp) x9 x10
        refine Eq.mp (congrArg (fun X => BothR T n fl X τ0 p0 o M s0 C W k) ?_) this
        rw [x2_both_L23.eq_2 (n := f)]
        exact (st_bind a1 (st_t rfl (st_f n10 (st_gd ht1 (st_gd (fre_ne (new_fre hlr)) (st_bind x1 (st_t rfl (st_gd ht2 (st_bind b1 rfl))))))))).symm
      · refine Or.inr (Or.inl ⟨kd, pl, τ2, s2, ?_, x2.after (he.tr a2), ?_, hM1.trans (u1.trans x4), ⟨hM2.tr (u2.tr x5.1), x5.2⟩, x6⟩)
        · rw [x2_both_L23]
          exact st_bind a1 (st_t rfl (st_f n10 (st_gd ht1 (st_gd (fre_ne (new_fre hlr)) (st_bind x1 (st_f n_10 rfl))))))
        · unfold rmo at *
          omega
    · obtain ⟨hC1, hpt, hl0⟩ := hC.keep hN0 a2
      have hwe : wlq T n p' = wlq T n p := by unfold wlq; rw [a6]
      refine Or.inl ⟨p', p, c, τ1, s, D, ops, gl + 1, go, ?_, ⟨he.tr a2, a3, by rw [a7]; exact ho, ?_⟩, ⟨a6.symm, hpp, a4, a5⟩, ?_, ⟨hM1, hM2, hM3⟩, hDl, hops, ⟨by rw [a6]; exact hw, by rw [a6]; exact hpd⟩, hgl, hgo⟩
      · rw [x2_both_L23]
        exact st_bind a1 (st_t rfl (st_t i32_0 rfl))
      · rw [← hj]; exact hC1.done hes
      · unfold rmo at *
        rw [hwe]
        omega
end
