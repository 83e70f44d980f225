set_option maxRecDepth 100000
/-! LAYER 2: the system's words, compared; numbers, names -/
section
variable {T : Int → Int} {n p : Int} {τ τ' : XS}
theorem strX_inj {c : Int} {w v : List Int} (h : strX τ c w) (h2 : strX τ c v) : w = v := by
  obtain ⟨-, -, -, a1, -, a2⟩ := h
  obtain ⟨-, -, -, b1, -, b2⟩ := h2
  have hl : w.length = v.length := by omega
  apply List.ext_getElem?
  intro i
  by_cases q : i < w.length
  · have e1 : w[i]? = some (w[i]) := List.getElem?_eq_getElem q
    have e2 : v[i]? = some (v[i]'(by omega)) := List.getElem?_eq_getElem (by omega)
    rw [e1, e2, ← (a2 i _ e1).1, ← (b2 i _ e2).1]
  · rw [List.getElem?_eq_none (by omega), List.getElem?_eq_none (by omega)]
theorem eq9_go {a c : Int} {w v : List Int} (k1 k2 : XS → Option (Int × XS)) (fa : fre a) (ta : τ a (-1) = 102) (la : τ a (-2) = w.length) (fc : fre c) (tc : τ c (-1) = 102) (lc : τ c (-2) = v.length) (hl : w.length = v.length) (hm : w.length ≤ 2000)
    (hw : ∀ (i : Nat) (x : Int), w[i]? = some x → τ a i = x ∧ 0 ≤ x ∧ x < 128) (hv : ∀ (i : Nat) (x : Int), v[i]? = some x → τ c i = x ∧ 0 ≤ x ∧ x < 128) :
    ∀ (d fuel i : Nat), i + d = w.length → d < fuel → j9_equals_L9 true a c k1 k2 fuel i τ = if w.drop i = v.drop i then k1 τ else k2 τ := by
  intro d
  induction d with
  | zero =>
    intro fuel i hd hf
    obtain ⟨g, rfl⟩ : ∃ g, fuel = g + 1 := ⟨fuel - 1, by omega⟩
    rw [List.drop_eq_nil_of_le (by omega), List.drop_eq_nil_of_le (by omega), if_pos rfl, j9_equals_L9]
    simp (disch := omega) only [gd_t, gd_T, gd_ok, not_false_eq_true, eq_self, bnd_r, bind_s, ite_t, ite_n, ite_T, ite_F, i32_id, tgf fa ta, ln_fre fa, la]
  | succ d ih =>
    intro fuel i hd hf
    obtain ⟨g, rfl⟩ : ∃ g, fuel = g + 1 := ⟨fuel - 1, by omega⟩
    have e1 : w[i]? = some (w[i]'(by omega)) := List.getElem?_eq_getElem (by omega)
    have e2 : v[i]? = some (v[i]'(by omega)) := List.getElem?_eq_getElem (by omega)
    rw [List.drop_eq_getElem_cons (show i < w.length by omega), List.drop_eq_getElem_cons (show i < v.length by omega)]
    have q1 := hw i _ e1
    have q2 := hv i _ e2
    have ih' := ih g (i + 1) (by omega) (by omega)
    generalize w[i]'(by omega) = x at *
    generalize v[i]'(by omega) = y at *
    rw [j9_equals_L9]
    by_cases cq : x = y
    · subst cq
      simp (disch := omega) only [gd_t, gd_T, gd_ok, not_false_eq_true, eq_self, bnd_r, bind_s, ite_t, ite_n, ite_T, ite_F, i32_id, tgf fa ta, ln_fre fa, la, tgf fc tc, ln_fre fc, lc, q1.1, q2.1]
      rw [show ((i : Int) + 1) = ((i + 1 : Nat) : Int) by omega, ih']
      simp
    · simp (disch := omega) only [gd_t, gd_T, gd_ok, not_false_eq_true, eq_self, bnd_r, bind_s, ite_t, ite_n, ite_T, ite_F, i32_id, tgf fa ta, ln_fre fa, la, tgf fc tc, ln_fre fc, lc, q1.1, q2.1]
      rw [if_neg (by simp [cq])]
theorem equals_ev {a c : Int} {w v : List Int} (ha : strX τ a w) (hc : strX τ c v) (h0 : 0 ≤ a ∨ 0 ≤ c) : j6_equals true a c τ = some (b2i (decide (w = v)), τ) := by
  by_cases e : a = c
  · subst e
    have := strX_inj ha hc
    subst this
    unfold j6_equals
    rw [gd_t (fre_ne ha.1.1), gd_t (fre_ne ha.1.1), gd_t h0, if_pos rfl]
    simp [b2i]
  · obtain ⟨⟨a1, a2⟩, a3, ⟨b1, b2⟩, b3, b4, b5⟩ := ha
    obtain ⟨⟨c1, c2⟩, c3, ⟨d1, d2⟩, d3, d4, d5⟩ := hc
    have g1 := tgf (t := 22) a1 a2
    have g2 := tgf (t := 22) c1 c2
    have g3 := tgf (t := 102) b1 b2
    have g4 := tgf (t := 102) d1 d2
    unfold j6_equals j9_equals
    by_cases hl : w.length = v.length
    · have hgo := eq9_go (fun (s19 : XS) => some (1, s19)) (fun (s20 : XS) => some (0, s20)) b1 b2 b3 d1 d2 d3 hl b4 b5 d5 w.length FU 0 (by omega) (by have := FU_ge; omega)
      rw [List.drop_zero, List.drop_zero, show ((0 : Nat) : Int) = 0 from rfl] at hgo
      by_cases q : w = v
      · rw [if_pos q] at hgo
        rw [decide_eq_true q]
        simp (disch := omega) only [gd_t, gd_T, gd_ok, not_false_eq_true, eq_self, bnd_r, bind_s, ite_t, ite_n, ite_T, ite_F, i32_id, fre_nf a1, fre_nf c1, gd_t h0, g1, g2, g3, g4, fre_nf b1, fre_nf d1, a3, c3, ln_fre b1, ln_fre d1, b3, d3, hgo]
        rfl
      · rw [if_neg q] at hgo
        rw [decide_eq_false q]
        simp (disch := omega) only [gd_t, gd_T, gd_ok, not_false_eq_true, eq_self, bnd_r, bind_s, ite_t, ite_n, ite_T, ite_F, i32_id, fre_nf a1, fre_nf c1, gd_t h0, g1, g2, g3, g4, fre_nf b1, fre_nf d1, a3, c3, ln_fre b1, ln_fre d1, b3, d3, hgo]
        rfl
    · have q : w ≠ v := fun e => hl (by rw [e])
      rw [decide_eq_false q]
      simp (disch := omega) only [gd_t, gd_T, gd_ok, not_false_eq_true, eq_self, bnd_r, bind_s, ite_t, ite_n, ite_T, ite_F, i32_id, fre_nf a1, fre_nf c1, gd_t h0, g1, g2, g3, g4, fre_nf b1, fre_nf d1, a3, c3, ln_fre b1, ln_fre d1, b3, d3]
      rfl
/-- the place of a word in a list, from i on; -1 -/
def fnd (w : List Int) : List (List Int) → Int → Int
  | [], _ => -1
  | v :: vs, i => if v = w then i else fnd w vs (i + 1)
theorem find_go {a c : Int} {w : List Int} {ws : List (List Int)} (ha : strX τ a w) (h0 : 0 ≤ a) (hc : aryX τ c ws) :
    ∀ (d fuel i : Nat), i + d = ws.length → d < fuel → x0_find_L2 a c (fun (s18 : XS) => some ((-1), s18)) (fun (x2_19 : Int) (s20 : XS) => some (x2_19, s20)) fuel i τ = some (fnd w (ws.drop i) i, τ) := by
  obtain ⟨⟨c1, c2⟩, c3, c4, c5⟩ := hc
  have g := tgf (t := 115) c1 c2
  intro d
  induction d with
  | zero =>
    intro fuel i hd hf
    obtain ⟨f, rfl⟩ : ∃ f, fuel = f + 1 := ⟨fuel - 1, by omega⟩
    rw [List.drop_eq_nil_of_le (by omega), x0_find_L2, fnd]
    simp (disch := omega) only [gd_t, gd_T, gd_ok, not_false_eq_true, eq_self, bnd_r, bind_s, ite_t, ite_n, ite_T, ite_F, i32_id, g, ln_fre c1, c3]
  | succ d ih =>
    intro fuel i hd hf
    obtain ⟨f, rfl⟩ : ∃ f, fuel = f + 1 := ⟨fuel - 1, by omega⟩
    have e1 : ws[i]? = some (ws[i]'(by omega)) := List.getElem?_eq_getElem (by omega)
    rw [List.drop_eq_getElem_cons (show i < ws.length by omega), fnd]
    have q := c5 i _ e1
    have ih' := ih f (i + 1) (by omega) (by omega)
    generalize ws[i]'(by omega) = x at *
    have eq := equals_ev q ha (Or.inr h0)
    rw [x0_find_L2]
    by_cases cx : x = w
    · rw [if_pos cx]
      rw [decide_eq_true cx] at eq
      simp (disch := omega) only [gd_t, gd_T, gd_ok, not_false_eq_true, eq_self, bnd_r, bind_s, ite_t, ite_n, ite_T, ite_F, i32_id, g, ln_fre c1, c3, fre_nf q.1.1, tgf (t := 22) q.1.1 q.1.2, eq, b2i_1]
    · rw [if_neg cx]
      rw [decide_eq_false cx] at eq
      simp (disch := omega) only [gd_t, gd_T, gd_ok, not_false_eq_true, eq_self, bnd_r, bind_s, ite_t, ite_n, ite_T, ite_F, i32_id, g, ln_fre c1, c3, fre_nf q.1.1, tgf (t := 22) q.1.1 q.1.2, eq, b2i_0]
      rw [show ((i : Int) + 1) = ((i + 1 : Nat) : Int) by omega]
      exact ih'
theorem find_ev {a c : Int} {w : List Int} {ws : List (List Int)} (ha : strX τ a w) (h0 : 0 ≤ a) (hc : aryX τ c ws) : x0_find a c τ = some (fnd w ws 0, τ) := by
  unfold x0_find
  rw [bnd_r]
  have h4 := hc.2.2.1
  have := find_go ha h0 hc ws.length FU 0 (by omega) (by have := FU_ge; omega)
  rw [List.drop_zero] at this
  exact this
theorem fnd_no (w : List Int) : ∀ (ws : List (List Int)) (i : Int), 0 ≤ i → (fnd w ws i = -1 ↔ ¬ w ∈ ws)
  | [], i, _ => by simp [fnd]
  | v :: vs, i, hi => by
    rw [fnd]
    by_cases q : v = w
    · rw [if_pos q]; simp [q]; omega
    · rw [if_neg q, fnd_no w vs (i + 1) (by omega)]
      simp [Ne.symm q]
theorem fnd_b (w : List Int) : ∀ (ws : List (List Int)) (i : Int), -1 ≤ i → -1 ≤ fnd w ws i ∧ fnd w ws i < i + ws.length + 1
  | [], i, h => by simp [fnd]; omega
  | v :: vs, i, h => by
    rw [fnd]
    split
    · simp; omega
    · have := fnd_b w vs (i + 1) (by omega); simp; omega
theorem length_ev {c : Int} {w : List Int} (h : strX τ c w) : j6_length true c τ = some ((w.length : Int), τ) := by
  obtain ⟨⟨a1, a2⟩, a3, ⟨b1, b2⟩, b3, b4, b5⟩ := h
  have z : i8 0 = 0 := by decide
  unfold j6_length j6_coder
  simp (disch := omega) only [gd_t, gd_T, gd_ok, not_false_eq_true, eq_self, bnd_r, bind_s, ite_t, ite_n, ite_T, ite_F, i32_id, tgf (t := 22) a1 a2, fre_nf b1, tgf (t := 102) b1 b2, a3, z, ishr_0, ln_fre b1, b3]
/-- a fault, with what was made until then -/
theorem xB.after {k pl : Int} {τ1 τ2 : XS} (he : ext τ τ1) (h : xB k pl τ1 τ2) : xB k pl τ τ2 := ⟨he.tr h.1, h.2⟩
theorem rmo.tr {c s c' s' : Int} {τ1 τ2 : XS} (h : rmo c s τ τ1) (h2 : rmo c' s' τ1 τ2) : rmo (c + c') (s + s') τ τ2 := by unfold rmo at *; omega
theorem rmo.mono {c s c' s' : Int} (h : rmo c s τ τ') (hc : c ≤ c') (hs : s ≤ s') : rmo c' s' τ τ' := by unfold rmo at *; omega
theorem rmo.rf : rmo 0 0 τ τ := by unfold rmo; omega
/-- the word w is asked -/
theorem wordW_t (h : xG T n τ p) {q : Int × List Int} (hq : q ∈ csl) (hw : hereW T n (rn qB T n p) q.2 = true) : ∃ τ', x2_word (τ (-1) q.1) τ = some (0, 0, τ') ∧ ext τ τ' ∧ xG T n τ' (rn qL T n (rn qB T n p)) ∧ τ' 7 4 = τ 7 4 ∧ rmo 3 (4 + 2 * (rn qL T n (rn qB T n p) - rn qB T n p)) τ τ' := by
  simp only [hereW, Bool.and_eq_true, Bool.not_eq_true', decide_eq_true_eq] at hw
  obtain ⟨c, τ1, w1, w2, w3, w4, w5, w6, w7, w8⟩ := word_ev h hw.1.1 hw.1.2
  have hN := h.2.2.2.2.2.1.1
  have hcs := (w5.2.2.2.2.2.2.1 q hq)
  rw [w4.2.1 q.1 (csl_2 q hq)] at hcs
  have eq := equals_ev w2 hcs (Or.inl (by omega))
  rw [decide_eq_true hw.2] at eq
  refine ⟨τ1, ?_, w4, w5, w7, w8⟩
  unfold x2_word
  simp (disch := omega) only [gd_t, gd_T, gd_ok, not_false_eq_true, eq_self, bnd_r, bind_s, ite_t, ite_n, ite_T, ite_F, i32_id, w1, tgf (t := 22) w2.1.1 w2.1.2, eq, b2i_1]
theorem wordW_f (h : xG T n τ p) {q : Int × List Int} (hq : q ∈ csl) (hw : hereW T n (rn qB T n p) q.2 = false) : ∃ τ', x2_word (τ (-1) q.1) τ = some (1, 0, τ') ∧ xB 1 (rn qB T n p) τ τ' ∧ rmo 3 (4 + 2 * (n - rn qB T n p)) τ τ' := by
  have hsk := sk_b h
  by_cases c0 : qL (bA T n (rn qB T n p)) = true ∧ pd T n (rn qB T n p) = false
  · obtain ⟨c, τ1, w1, w2, w3, w4, w5, w6, w7, w8⟩ := word_ev h c0.1 c0.2
    have hN := h.2.2.2.2.2.1.1
    have hcs := (w5.2.2.2.2.2.2.1 q hq)
    rw [w4.2.1 q.1 (csl_2 q hq)] at hcs
    have eq := equals_ev w2 hcs (Or.inl (by omega))
    have hne : ¬ wrd T n (rn qB T n p) = q.2 := fun e => by simp [hereW, c0, e] at hw
    rw [decide_eq_false hne] at eq
    have hr := rn_hi (q := qL) (T := T) qL_1 hsk.2
    refine ⟨ux (ux τ1 8 6 1) 8 7 (rn qB T n p), ?_, xB.mk' w4 w5.2.2.2.2.2.1 1 _, ?_⟩
    · unfold x2_word
      simp (disch := omega) only [gd_t, gd_T, gd_ok, not_false_eq_true, eq_self, bnd_r, bind_s, ite_t, ite_n, ite_T, ite_F, i32_id, w1, tgf (t := 22) w2.1.1 w2.1.2, eq, b2i_0, w6, wrong_ev]
    · unfold rmo at *
      rw [u8_N, u8_N, u8_N, u8_N]
      omega
  · obtain ⟨τ1, w1, w2, w3⟩ := word_bad h c0
    refine ⟨τ1, ?_, w2, w3.mono (by omega) (by omega)⟩
    unfold x2_word
    simp (disch := omega) only [gd_t, gd_T, gd_ok, not_false_eq_true, eq_self, bnd_r, bind_s, ite_t, ite_n, ite_T, ite_F, i32_id, w1]
theorem is_ev {a b c : Int} (τ : XS) (ha : -1000000000 ≤ a ∧ a ≤ 1000000000) (hb : -1000000000 ≤ b ∧ b ≤ 1000000000) (hc : -1000000000 ≤ c ∧ c ≤ 1000000000) : x0_is a b c τ = some (b2i (decide (b ≤ a ∧ a ≤ c)), τ) := by
  unfold x0_is
  by_cases c1 : a < b
  · rw [decide_eq_false (by omega)]; simp (disch := omega) only [gd_t, gd_T, gd_ok, not_false_eq_true, eq_self, bnd_r, bind_s, ite_t, ite_n, ite_T, ite_F, i32_id]; rfl
  · by_cases c2 : c < a
    · rw [decide_eq_false (by omega)]; simp (disch := omega) only [gd_t, gd_T, gd_ok, not_false_eq_true, eq_self, bnd_r, bind_s, ite_t, ite_n, ite_T, ite_F, i32_id]; rfl
    · rw [decide_eq_true (by omega)]; simp (disch := omega) only [gd_t, gd_T, gd_ok, not_false_eq_true, eq_self, bnd_r, bind_s, ite_t, ite_n, ite_T, ite_F, i32_id]; rfl
theorem num_go (k1 : Int → Int → Int → XS → Option RX) (k2 : XS → Option RX) (lo hi : Int) {q e : Int} (hq : 0 ≤ q) (he : e ≤ rn qD T n q) (hen : e ≤ n) (he4 : e ≤ q + 4) : ∀ (d fuel : Nat) (x : Int) (τ : XS), xG T n τ x → τ 7 3 = q → q ≤ x → x + d = e → d ≤ fuel → x2_number_L34 k1 k2 fuel lo hi (nVl (wdl T q x)) τ = x2_number_L34 k1 k2 (fuel - d) lo hi (nVl (wdl T q e)) (ux τ 7 2 e) := by
  intro d
  induction d with
  | zero =>
    intro fuel x τ h h3 hx hd hf
    have : x = e := by omega
    subst this
    rw [ux_self h.2.2.2.1]
    rfl
  | succ d ih =>
    intro fuel x τ h h3 hx hd hf
    obtain ⟨g, rfl⟩ : ∃ g, fuel = g + 1 := ⟨fuel - 1, by omega⟩
    have hn := h.1.1
    have h2 : τ 7 2 = x := h.2.2.2.1
    have hb := h.1.2 x (by omega) (by omega)
    have hbA := bA_in (T := T) (n := n) (p := x) (by omega) (by omega)
    have hdg : qD (T x) = true := by rw [← hbA]; exact rn_in (q := qD) (p := q) (by omega) (by omega)
    have e1 := ih g (x + 1) (ux τ 7 2 (x + 1)) (h.to (by omega)) (by rw [ux_i _ _ _ _ (by decide)]; exact h3) (by omega) (by omega) (by omega)
    rw [ux_ux] at e1
    rw [show g + 1 - (d + 1) = g - d by omega, ← e1, x2_number_L34, wdl_snoc hx, nVl_snoc]
    simp (disch := omega) only [gd_t, gd_T, gd_ok, not_false_eq_true, eq_self, bnd_r, bind_s, ite_t, ite_n, ite_T, ite_F, i32_id, h2, h3, byteAt_ev h (k := x) (by omega), hbA, isDigit_ev τ (c := T x) (by omega), hdg, b2i_1]
theorem number_ev (h : xG T n τ p) {lo hi : Int} (hlo : 0 ≤ lo ∧ lo ≤ 100000) (hhi : 0 ≤ hi ∧ hi ≤ 100000) :
    ((tkN T n p lo hi).1 = 0 → ∃ τ', x2_number lo hi τ = some (0, (tkN T n p lo hi).2.1, τ') ∧ ext τ τ' ∧ xG T n τ' (tkN T n p lo hi).2.2 ∧ τ' 7 4 = τ 7 4 ∧ τ' (-1) = τ (-1)) ∧ ((tkN T n p lo hi).1 ≠ 0 → ∃ τ', x2_number lo hi τ = some (1, 0, τ') ∧ xB (tkN T n p lo hi).1 (tkN T n p lo hi).2.1 τ τ' ∧ τ' (-1) = τ (-1)) := by
  have hn := h.1.1
  have hq := sk_b h
  have hb := bA_b h.1 (rn qB T n p)
  have hG1 := h.to hq
  have hh := here_ev h
  have hal := h.2.2.2.2.2.1
  have hFU := FU_ge
  unfold tkN
  generalize hQ : rn qB T n p = q at *
  have hal1 : al (ux τ 7 2 q) := hG1.2.2.2.2.2.1
  have he1 : ext τ (ux τ 7 2 q) := ext.rf.u7 (Or.inl rfl)
  have hdl := isDigit_ev (ux τ 7 2 q) hb
  by_cases c1 : qD (bA T n q) = true ∧ pd T n q = false
  · have hr := rn_hi (q := qD) (T := T) qD_1 hq.2
    have hr2 := rn_lt (q := qD) (T := T) (n := n) qD_1 c1.1
    have hG2 := hG1.from q
    have he2 : ext τ (ux (ux τ 7 2 q) 7 3 q) := he1.u7 (Or.inr (Or.inl rfl))
    have hpt := parted_f hG1 c1.2
    have hw0 : nVl (wdl T q q) = 0 := by rw [wdl_nil]; rfl
    rw [if_pos c1]
    by_cases c2 : rn qD T n q - q ≤ 4
    · rw [if_pos c2]
      have hv := nVl_b _ (wdl T q (rn qD T n q)) rfl (fun c hc => qD_t.mp (wdl_mem qD_1 hc))
      have hv2 : nVl (wdl T q (rn qD T n q)) < 10000 := by
        rw [wdl_len] at hv
        have : (10 : Int) ^ (rn qD T n q - q).toNat ≤ 10 ^ 4 := by
          rcases (show (rn qD T n q - q).toNat = 0 ∨ (rn qD T n q - q).toNat = 1 ∨ (rn qD T n q - q).toNat = 2 ∨ (rn qD T n q - q).toNat = 3 ∨ (rn qD T n q - q).toNat = 4 by omega) with h | h | h | h | h <;> rw [h] <;> decide
        omega
      have hdg : qD (bA T n (rn qD T n q)) = false := rn_end qD_1 q
      have hgo := fun k1 k2 => num_go k1 k2 lo hi hq.1 (Int.le_refl (rn qD T n q)) hr (by omega) (rn qD T n q - q).toNat FU q (ux (ux τ 7 2 q) 7 3 q) hG2 (by rw [ux_s]) (Int.le_refl _) (by omega) (by omega)
      rw [hw0] at hgo
      obtain ⟨f, hf⟩ : ∃ f, FU - (rn qD T n q - q).toNat = f + 1 := ⟨FU - (rn qD T n q - q).toNat - 1, by omega⟩
      have hG3 := hG2.to (q := rn qD T n q) ⟨by omega, hr⟩
      have hal3 := hG3.2.2.2.2.2.1
      have he3 : ext τ (ux (ux (ux τ 7 2 q) 7 3 q) 7 2 (rn qD T n q)) := he2.u7 (Or.inl rfl)
      have f3 : ux (ux (ux τ 7 2 q) 7 3 q) 7 2 (rn qD T n q) 7 3 = q := by rw [ux_i _ _ _ _ (by decide), ux_s]
      have f4 : ux (ux (ux τ 7 2 q) 7 3 q) 7 2 (rn qD T n q) 7 4 = τ 7 4 := by rw [ux_i _ _ _ _ (by decide), ux_i _ _ _ _ (by decide), ux_i _ _ _ _ (by decide)]
      have f1 : ux (ux (ux τ 7 2 q) 7 3 q) 7 2 (rn qD T n q) (-1) = τ (-1) := by rw [ux_cell (by decide), ux_cell (by decide), ux_cell (by decide)]
      have hbr := bA_b h.1 (rn qD T n q)
      have e1 : x2_number lo hi τ = if lo ≤ nVl (wdl T q (rn qD T n q)) ∧ nVl (wdl T q (rn qD T n q)) ≤ hi then some (0, nVl (wdl T q (rn qD T n q)), ux (ux (ux τ 7 2 q) 7 3 q) 7 2 (rn qD T n q)) else some (1, 0, ux (ux (ux (ux (ux τ 7 2 q) 7 3 q) 7 2 (rn qD T n q)) 8 6 2) 8 7 q) := by
        unfold x2_number
        simp (disch := omega) only [gd_t, gd_T, gd_ok, not_false_eq_true, eq_self, bnd_r, bind_s, ite_t, ite_n, ite_T, ite_F, i32_id, hh, hdl, c1.1, b2i_1, hpt, ux_s, hgo]
        rw [hf]
        generalize hs3 : ux (ux (ux τ 7 2 q) 7 3 q) 7 2 (rn qD T n q) = s3 at *
        have h2 : s3 7 2 = rn qD T n q := hG3.2.2.2.1
        rw [x2_number_L34]
        by_cases c3 : lo ≤ nVl (wdl T q (rn qD T n q)) ∧ nVl (wdl T q (rn qD T n q)) ≤ hi
        · rw [if_pos c3]
          simp (disch := omega) only [gd_t, gd_T, gd_ok, not_false_eq_true, eq_self, bnd_r, bind_s, ite_t, ite_n, ite_T, ite_F, i32_id, h2, byteAt_ev hG3 (k := rn qD T n q) (by omega), isDigit_ev s3 hbr, hdg, b2i_0, is_ev s3 (a := nVl (wdl T q (rn qD T n q))) (b := lo) (c := hi) (by omega) (by omega) (by omega), decide_eq_true c3, b2i_1]
        · rw [if_neg c3]
          simp (disch := omega) only [gd_t, gd_T, gd_ok, not_false_eq_true, eq_self, bnd_r, bind_s, ite_t, ite_n, ite_T, ite_F, i32_id, h2, byteAt_ev hG3 (k := rn qD T n q) (by omega), isDigit_ev s3 hbr, hdg, b2i_0, is_ev s3 (a := nVl (wdl T q (rn qD T n q))) (b := lo) (c := hi) (by omega) (by omega) (by omega), decide_eq_false c3, f3, wrong_ev]
      by_cases c3 : lo ≤ nVl (wdl T q (rn qD T n q)) ∧ nVl (wdl T q (rn qD T n q)) ≤ hi
      · rw [if_pos c3] at e1
        simp only [if_pos c3]
        exact ⟨fun _ => ⟨_, e1, he3, hG3, f4, f1⟩, fun h => absurd rfl h⟩
      · rw [if_neg c3] at e1
        simp only [if_neg c3]
        exact ⟨fun h => by omega, fun _ => ⟨_, e1, xB.mk' he3 hal3 2 q, by rw [ux_cell (by decide), ux_cell (by decide)]; exact f1⟩⟩
    · simp only [if_neg c2]
      refine ⟨fun h => by omega, fun _ => ?_⟩
      have hgo := fun k1 k2 => num_go k1 k2 lo hi hq.1 (e := q + 4) (by omega) (by omega) (by omega) 4 FU q (ux (ux τ 7 2 q) 7 3 q) hG2 (by rw [ux_s]) (Int.le_refl _) (by omega) (by omega)
      rw [hw0] at hgo
      obtain ⟨f, hf⟩ : ∃ f, FU - 4 = f + 1 := ⟨FU - 4 - 1, by omega⟩
      have hG3 := hG2.to (q := q + 4) ⟨by omega, by omega⟩
      have hal3 := hG3.2.2.2.2.2.1
      have he3 : ext τ (ux (ux (ux τ 7 2 q) 7 3 q) 7 2 (q + 4)) := he2.u7 (Or.inl rfl)
      have f3 : ux (ux (ux τ 7 2 q) 7 3 q) 7 2 (q + 4) 7 3 = q := by rw [ux_i _ _ _ _ (by decide), ux_s]
      have f1 : ux (ux (ux τ 7 2 q) 7 3 q) 7 2 (q + 4) (-1) = τ (-1) := by rw [ux_cell (by decide), ux_cell (by decide), ux_cell (by decide)]
      have hbr := bA_b h.1 (q + 4)
      have hdg : qD (bA T n (q + 4)) = true := rn_in (q := qD) (p := q) (by omega) (by omega)
      refine ⟨_, ?_, xB.mk' he3 hal3 1 (q + 4), by rw [ux_cell (by decide), ux_cell (by decide)]; exact f1⟩
      unfold x2_number
      simp (disch := omega) only [gd_t, gd_T, gd_ok, not_false_eq_true, eq_self, bnd_r, bind_s, ite_t, ite_n, ite_T, ite_F, i32_id, hh, hdl, c1.1, b2i_1, hpt, ux_s, hgo]
      rw [hf]
      generalize hs3 : ux (ux (ux τ 7 2 q) 7 3 q) 7 2 (q + 4) = s3 at *
      have h2 : s3 7 2 = q + 4 := hG3.2.2.2.1
      rw [x2_number_L34]
      simp (disch := omega) only [gd_t, gd_T, gd_ok, not_false_eq_true, eq_self, bnd_r, bind_s, ite_t, ite_n, ite_T, ite_F, i32_id, h2, byteAt_ev hG3 (k := q + 4) (by omega), isDigit_ev s3 hbr, hdg, b2i_1, f3, show q + 4 - q = 4 by omega, wrong_ev]
  · simp only [if_neg c1]
    refine ⟨fun h => by omega, fun _ => ⟨ux (ux (ux τ 7 2 q) 8 6 1) 8 7 q, ?_, xB.mk' he1 hal1 1 q, by rw [ux_cell (by decide), ux_cell (by decide), ux_cell (by decide)]⟩⟩
    unfold x2_number
    cases c2 : qD (bA T n q) with
    | false =>
      simp (disch := omega) only [gd_t, gd_T, gd_ok, not_false_eq_true, eq_self, bnd_r, bind_s, ite_t, ite_n, ite_T, ite_F, i32_id, hh, hdl, c2, b2i_0, ux_s, wrong_ev]
    | true =>
      have c3 : pd T n q = true := by
        cases hh : pd T n q with
        | true => rfl
        | false => exact absurd ⟨c2, hh⟩ c1
      simp (disch := omega) only [gd_t, gd_T, gd_ok, not_false_eq_true, eq_self, bnd_r, bind_s, ite_t, ite_n, ite_T, ite_F, i32_id, hh, hdl, c2, b2i_1, parted_t hG1 c3]
theorem must_t (h : xG T n τ p) {c : Int} (hc : 0 ≤ c ∧ c < 256) (hw : bA T n (rn qB T n p) = c) : x2_must c τ = some (0, 0, ux τ 7 2 (rn qB T n p + 1)) ∧ xG T n (ux τ 7 2 (rn qB T n p + 1)) (rn qB T n p + 1) := by
  have hq := sk_b h
  have hin := bA_at (T := T) (n := n) (p := rn qB T n p) (by omega)
  refine ⟨?_, h.to (by omega)⟩
  unfold x2_must
  simp (disch := omega) only [gd_t, gd_T, gd_ok, not_false_eq_true, eq_self, bnd_r, bind_s, ite_t, ite_n, ite_T, ite_F, i32_id, here_ev h, hw, ux_s, ux_ux]
theorem must_f (h : xG T n τ p) {c : Int} (hc : 0 ≤ c ∧ c < 256) (hw : bA T n (rn qB T n p) ≠ c) : ∃ τ', x2_must c τ = some (1, 0, τ') ∧ xB 1 (rn qB T n p) τ τ' ∧ τ' (-1) = τ (-1) := by
  have hq := sk_b h
  have hb := bA_b h.1 (rn qB T n p)
  have hal := (h.to hq).2.2.2.2.2.1
  refine ⟨_, ?_, xB.mk' (τ := ux τ 7 2 (rn qB T n p)) (ext.rf.u7 (Or.inl rfl)) hal 1 (rn qB T n p), by rw [ux_cell (by decide), ux_cell (by decide), ux_cell (by decide)]⟩
  unfold x2_must
  simp (disch := omega) only [gd_t, gd_T, gd_ok, not_false_eq_true, eq_self, bnd_r, bind_s, ite_t, ite_n, ite_T, ite_F, i32_id, here_ev h, ux_s, wrong_ev]
theorem takes_t (h : xG T n τ p) {c : Int} (hc : 0 ≤ c ∧ c < 256) (hw : bA T n (rn qB T n p) = c) : x2_takes c τ = some (1, ux τ 7 2 (rn qB T n p + 1)) ∧ xG T n (ux τ 7 2 (rn qB T n p + 1)) (rn qB T n p + 1) := by
  have hq := sk_b h
  have hin := bA_at (T := T) (n := n) (p := rn qB T n p) (by omega)
  refine ⟨?_, h.to (by omega)⟩
  have bz1 : bz 1 := Or.inr (by decide)
  unfold x2_takes
  simp (disch := omega) only [gd_t, gd_T, gd_ok, not_false_eq_true, eq_self, bnd_r, bind_s, ite_t, ite_n, ite_T, ite_F, i32_id, here_ev h, hw, ux_s, ux_ux, gd_t bz1]
theorem takes_f (h : xG T n τ p) {c : Int} (hc : 0 ≤ c ∧ c < 256) (hw : bA T n (rn qB T n p) ≠ c) : x2_takes c τ = some (0, ux τ 7 2 (rn qB T n p)) ∧ xG T n (ux τ 7 2 (rn qB T n p)) (rn qB T n p) := by
  have hq := sk_b h
  have hb := bA_b h.1 (rn qB T n p)
  refine ⟨?_, h.to hq⟩
  have bz0 : bz 0 := Or.inl (by decide)
  unfold x2_takes
  simp (disch := omega) only [gd_t, gd_T, gd_ok, not_false_eq_true, eq_self, bnd_r, bind_s, ite_t, ite_n, ite_T, ite_F, i32_id, here_ev h, ux_s, ux_ux, gd_t bz0, Int.add_zero]
theorem most_f {pl : Int} : x2_most 0 pl τ = some (0, 0, τ) := by unfold x2_most; simp (disch := omega) only [gd_t, gd_T, gd_ok, not_false_eq_true, eq_self, bnd_r, bind_s, ite_t, ite_n, ite_T, ite_F, i32_id]
theorem most_t {pl : Int} : x2_most 1 pl τ = some (1, 0, ux (ux τ 8 6 5) 8 7 pl) := by unfold x2_most; simp (disch := omega) only [gd_t, gd_T, gd_ok, not_false_eq_true, eq_self, bnd_r, bind_s, ite_t, ite_n, ite_T, ite_F, i32_id, wrong_ev]
theorem opens_f {pl : Int} (h : 0 ≤ τ 7 4 ∧ τ 7 4 < 6) : x2_opens pl τ = some (0, 0, ux τ 7 4 (τ 7 4 + 1)) := by unfold x2_opens; simp (disch := omega) only [gd_t, gd_T, gd_ok, not_false_eq_true, eq_self, bnd_r, bind_s, ite_t, ite_n, ite_T, ite_F, i32_id]
theorem opens_t {pl : Int} (h : τ 7 4 = 6) : x2_opens pl τ = some (1, 0, ux (ux τ 8 6 4) 8 7 pl) := by unfold x2_opens; simp (disch := omega) only [gd_t, gd_T, gd_ok, not_false_eq_true, eq_self, bnd_r, bind_s, ite_t, ite_n, ite_T, ite_F, i32_id, h, wrong_ev]
/-- a name is asked -/
theorem name_ev (h : xG T n τ p) :
    ((tkM T n p).1 = 0 → ∃ c τ', x2_name τ = some (0, c, τ') ∧ strX τ' c (wdl T (tkM T n p).2.1 (tkM T n p).2.2) ∧ τ (-1) 0 ≤ c ∧ ext τ τ' ∧ xG T n τ' (tkM T n p).2.2 ∧ τ' 7 3 = (tkM T n p).2.1 ∧ τ' 7 4 = τ 7 4 ∧ rmo 3 (4 + 2 * ((tkM T n p).2.2 - p)) τ τ') ∧ ((tkM T n p).1 ≠ 0 → ∃ τ', x2_name τ = some (1, 0, τ') ∧ xB (tkM T n p).1 (tkM T n p).2.1 τ τ' ∧ rmo 3 (4 + 2 * (n - p)) τ τ') := by
  have hn := h.1.1
  have hp := h.2.2.2.2.1
  have hq := sk_b h
  have hle := rn_le (q := qB) (T := T) (n := n) p
  have hN := h.2.2.2.2.2.1.1
  unfold tkM
  by_cases c1 : qL (bA T n (rn qB T n p)) = true ∧ pd T n (rn qB T n p) = false
  · rw [if_pos c1]
    have hr := rn_hi (q := qL) (T := T) qL_1 hq.2
    have hr2 := rn_lt (q := qL) (T := T) (n := n) qL_1 c1.1
    obtain ⟨c, τ1, w1, w2, w3, w4, w5, w6, w7, w8⟩ := word_ev h c1.1 c1.2
    have hown := w5.2.2.2.2.2.2.2.1
    have hf := find_ev w2 (by omega) hown
    have hne := fre_ne hown.1.1
    have hal1 := w5.2.2.2.2.2.1
    have hln := length_ev w2
    rw [show (wrd T n (rn qB T n p)).length = (rn qL T n (rn qB T n p) - rn qB T n p).toNat from wdl_len _ _ _] at hln
    have hfb := fnd_b (wrd T n (rn qB T n p)) ownW 0 (by omega)
    have hol : ownW.length = 24 := by decide
    have wt := tgf (t := 22) w2.1.1 w2.1.2
    by_cases c0 : wrd T n (rn qB T n p) ∈ ownW
    · simp only [if_pos c0]
      refine ⟨fun h => by omega, fun _ => ⟨ux (ux τ1 8 6 1) 8 7 (rn qB T n p), ?_, xB.mk' w4 hal1 1 _, ?_⟩⟩
      · have hno : fnd (wrd T n (rn qB T n p)) ownW 0 ≠ -1 := fun e => (fnd_no _ ownW 0 (by omega)).mp e c0
        unfold x2_name
        simp (disch := omega) only [gd_t, gd_T, gd_ok, not_false_eq_true, eq_self, bnd_r, bind_s, ite_t, ite_n, ite_T, ite_F, i32_id, w1, gd_t hne, hf, w6, wrong_ev]
      · unfold rmo at *
        rw [u8_N, u8_N, u8_N, u8_N]
        omega
    · simp only [if_neg c0]
      have hno : fnd (wrd T n (rn qB T n p)) ownW 0 = -1 := (fnd_no _ ownW 0 (by omega)).mpr c0
      by_cases c2 : rn qL T n (rn qB T n p) - rn qB T n p ≤ 6
      · simp only [if_pos c2]
        refine ⟨fun _ => ⟨c, τ1, ?_, w2, w3, w4, w5, w6, w7, w8.mono (by omega) (by omega)⟩, fun h => absurd rfl h⟩
        unfold x2_name
        simp (disch := omega) only [gd_t, gd_T, gd_ok, not_false_eq_true, eq_self, bnd_r, bind_s, ite_t, ite_n, ite_T, ite_F, i32_id, w1, gd_t hne, hf, hno, wt, hln]
      · simp only [if_neg c2]
        refine ⟨fun h => by omega, fun _ => ⟨ux (ux τ1 8 6 1) 8 7 (rn qB T n p + 6), ?_, xB.mk' w4 hal1 1 _, ?_⟩⟩
        · unfold x2_name
          simp (disch := omega) only [gd_t, gd_T, gd_ok, not_false_eq_true, eq_self, bnd_r, bind_s, ite_t, ite_n, ite_T, ite_F, i32_id, w1, gd_t hne, hf, hno, wt, hln, w6, wrong_ev]
        · unfold rmo at *
          rw [u8_N, u8_N, u8_N, u8_N]
          omega
  · simp only [if_neg c1]
    refine ⟨fun h => by omega, fun _ => ?_⟩
    obtain ⟨τ1, w1, w2, w3⟩ := word_bad h c1
    refine ⟨τ1, ?_, w2, w3.mono (by omega) (by omega)⟩
    unfold x2_name
    simp (disch := omega) only [gd_t, gd_T, gd_ok, not_false_eq_true, eq_self, bnd_r, bind_s, ite_t, ite_n, ite_T, ite_F, i32_id, w1]
/-- the word w is passed, if it is here -/
theorem passes_t (h : xG T n τ p) {q : Int × List Int} (hq : q ∈ csl) (hw : hereW T n (rn qB T n p) q.2 = true) : ∃ τ', x2_passes (τ (-1) q.1) τ = some (0, 1, τ') ∧ ext τ τ' ∧ xG T n τ' (rn qL T n (rn qB T n p)) ∧ τ' 7 3 = rn qB T n p ∧ τ' 7 4 = τ 7 4 ∧ rmo 3 (4 + 2 * (rn qL T n (rn qB T n p) - rn qB T n p)) τ τ' := by
  simp only [hereW, Bool.and_eq_true, Bool.not_eq_true', decide_eq_true_eq] at hw
  have hsk := sk_b h
  have hb := bA_b h.1 (rn qB T n p)
  have h1 := h.to hsk
  obtain ⟨c, τ1, w1, w2, w3, w4, w5, w6, w7, w8⟩ := word_ev h1 (by rw [sk_sk]; exact hw.1.1) (by rw [sk_sk]; exact hw.1.2)
  rw [sk_sk] at w2 w5 w6 w8
  have hN := h1.2.2.2.2.2.1.1
  have hcs := (w5.2.2.2.2.2.2.1 q hq)
  have e1 : τ1 (-1) q.1 = τ (-1) q.1 := by rw [w4.2.1 q.1 (csl_2 q hq), u7_N]
  rw [e1] at hcs
  have eq := equals_ev w2 hcs (Or.inl (by omega))
  rw [decide_eq_true hw.2] at eq
  refine ⟨τ1, ?_, (ext.rf.u7 (Or.inl rfl)).tr w4, w5, w6, by rw [w7, ux_i _ _ _ _ (by decide)], ?_⟩
  · unfold x2_passes
    simp (disch := omega) only [gd_t, gd_T, gd_ok, not_false_eq_true, eq_self, bnd_r, bind_s, ite_t, ite_n, ite_T, ite_F, i32_id, here_ev h, isLetter_ev (ux τ 7 2 (rn qB T n p)) hb, hw.1.1, b2i_1, w1, tgf (t := 22) w2.1.1 w2.1.2, eq]
  · unfold rmo at *
    rw [u7_N, u7_N] at w8
    exact w8
theorem passes_no (h : xG T n τ p) {c : Int} (hw : qL (bA T n (rn qB T n p)) = false) : x2_passes c τ = some (0, 0, ux τ 7 2 (rn qB T n p)) := by
  have hb := bA_b h.1 (rn qB T n p)
  unfold x2_passes
  simp (disch := omega) only [gd_t, gd_T, gd_ok, not_false_eq_true, eq_self, bnd_r, bind_s, ite_t, ite_n, ite_T, ite_F, i32_id, here_ev h, isLetter_ev (ux τ 7 2 (rn qB T n p)) hb, hw, b2i_0]
theorem passes_bad (h : xG T n τ p) {c : Int} (hw : qL (bA T n (rn qB T n p)) = true) (hd : pd T n (rn qB T n p) = true) : ∃ τ', x2_passes c τ = some (1, 0, τ') ∧ xB 1 (rn qB T n p) τ τ' ∧ rmo 0 0 τ τ' := by
  have hsk := sk_b h
  have hb := bA_b h.1 (rn qB T n p)
  have h1 := h.to hsk
  obtain ⟨τ1, w1, w2, w3⟩ := word_bad h1 (by rw [sk_sk, hd]; simp)
  rw [sk_sk] at w2
  refine ⟨τ1, ?_, w2.after (ext.rf.u7 (Or.inl rfl)), ?_⟩
  · unfold x2_passes
    simp (disch := omega) only [gd_t, gd_T, gd_ok, not_false_eq_true, eq_self, bnd_r, bind_s, ite_t, ite_n, ite_T, ite_F, i32_id, here_ev h, isLetter_ev (ux τ 7 2 (rn qB T n p)) hb, hw, b2i_1, w1]
  · unfold rmo at *
    rw [u7_N, u7_N] at w3
    exact w3
theorem passes_f (h : xG T n τ p) {q : Int × List Int} (hq : q ∈ csl) (hl : qL (bA T n (rn qB T n p)) = true) (hd : pd T n (rn qB T n p) = false) (hw : ¬ wrd T n (rn qB T n p) = q.2) : ∃ τ', x2_passes (τ (-1) q.1) τ = some (0, 0, τ') ∧ ext τ τ' ∧ xG T n τ' p ∧ τ' 7 4 = τ 7 4 ∧ rmo 3 (4 + 2 * (rn qL T n (rn qB T n p) - rn qB T n p)) τ τ' := by
  have hsk := sk_b h
  have hb := bA_b h.1 (rn qB T n p)
  have h1 := h.to hsk
  obtain ⟨c, τ1, w1, w2, w3, w4, w5, w6, w7, w8⟩ := word_ev h1 (by rw [sk_sk]; exact hl) (by rw [sk_sk]; exact hd)
  rw [sk_sk] at w2 w5 w6 w8
  have hN := h1.2.2.2.2.2.1.1
  have hcs := (w5.2.2.2.2.2.2.1 q hq)
  have e1 : τ1 (-1) q.1 = τ (-1) q.1 := by rw [w4.2.1 q.1 (csl_2 q hq), u7_N]
  rw [e1] at hcs
  have eq := equals_ev w2 hcs (Or.inl (by omega))
  rw [decide_eq_false hw] at eq
  have h2 : τ 7 2 = p := h.2.2.2.1
  refine ⟨ux τ1 7 2 p, ?_, ((ext.rf.u7 (Or.inl rfl)).tr w4).u7 (Or.inl rfl), w5.to h.2.2.2.2.1, by rw [ux_i _ _ _ _ (by decide), w7, ux_i _ _ _ _ (by decide)], ?_⟩
  · unfold x2_passes
    simp (disch := omega) only [gd_t, gd_T, gd_ok, not_false_eq_true, eq_self, bnd_r, bind_s, ite_t, ite_n, ite_T, ite_F, i32_id, h2, here_ev h, isLetter_ev (ux τ 7 2 (rn qB T n p)) hb, hl, b2i_1, b2i_0, w1, tgf (t := 22) w2.1.1 w2.1.2, eq]
  · unfold rmo at *
    rw [u7_N, u7_N] at *
    exact w8
end
