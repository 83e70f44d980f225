set_option maxRecDepth 100000
/-! LAYER 2: the reference's words -/
def wo : Nat → List Int
  | 10 => [100, 117, 115, 107]
  | 11 => [115, 97, 121, 105, 110, 103]
  | 12 => [97, 116]
  | 13 => [116, 111, 110, 101]
  | 14 => [118, 101, 114, 98]
  | 15 => [107, 105, 110, 100]
  | 16 => [109, 105, 108, 100]
  | 17 => [108, 101, 110, 116]
  | 18 => [116, 97, 107, 101, 115]
  | 19 => [119, 101, 108, 108]
  | 20 => [116, 117, 114, 110, 115]
  | 21 => [100, 105, 116, 99, 104]
  | 22 => [103, 105, 118, 101, 110]
  | 23 => [100, 97, 121]
  | 24 => [110, 117, 109, 98, 101, 114]
  | 25 => [99, 111, 108, 117, 109, 110]
  | 26 => [114, 111, 119]
  | 27 => [103, 101, 116, 115]
  | 28 => [111, 114]
  | 29 => [97, 110, 100]
  | 30 => [110, 111, 116]
  | 31 => [97, 108, 108]
  | 32 => [109, 105, 110]
  | 33 => [109, 97, 120]
  | 73 => [102, 105, 114, 115, 116]
  | 74 => [108, 97, 115, 116]
  | 75 => [111, 102, 116, 101, 110]
  | 76 => [116, 111, 116, 97, 108]
  | 77 => [109, 111, 115, 116]
  | 78 => [108, 101, 97, 115, 116]
  | 79 => [110, 111, 116]
  | 80 => [97, 110, 100]
  | 81 => [111, 114]
  | 82 => [97, 108, 108]
  | 83 => [109, 105, 110]
  | 84 => [109, 97, 120]
  | 85 => [116, 111, 110, 101]
  | 86 => [107, 105, 110, 100]
  | 87 => [109, 105, 108, 100]
  | 88 => [103, 105, 118, 101, 110]
  | 89 => [100, 97, 121]
  | 90 => [110, 117, 109, 98, 101, 114]
  | 91 => [99, 111, 108, 117, 109, 110]
  | 92 => [114, 111, 119]
  | 93 => [103, 101, 116, 115]
  | 94 => [103, 105, 118, 101, 110]
  | 95 => [119, 101, 108, 108]
  | _ => []
def wfs : List Nat := [10, 11, 12, 13, 14, 15, 16, 17, 18, 19, 20, 21, 22, 23, 24, 25, 26, 27, 28, 29, 30, 31, 32, 33, 73, 74, 75, 76, 77, 78, 79, 80, 81, 82, 83, 84, 85, 86, 87, 88, 89, 90, 91, 92, 93, 94, 95]
theorem wo_ok : ∀ a ∈ wfs, (a < 108 ∧ mK a = 11) ∧ mN a = (wo a).length ∧ (wo a).length ≤ 6 ∧ (wo a).all (fun c => decide (97 ≤ c) && decide (c ≤ 122)) = true := by decide +kernel
theorem wo_get {a : Nat} (h : a ∈ wfs) {j : Int} (h0 : 0 ≤ j) (h1 : j < (wo a).length) : 97 ≤ (wo a).getD j.toNat 0 ∧ (wo a).getD j.toNat 0 ≤ 122 := by
  obtain ⟨-, -, -, h2⟩ := wo_ok a h
  have hj : j.toNat < (wo a).length := by omega
  rw [List.getD_eq_getElem?_getD, List.getElem?_eq_getElem hj]
  have := List.all_eq_true.mp h2 _ (List.getElem_mem hj)
  simpa using this
def mWd (s : MS) : Prop := ∀ a ∈ wfs, holdsL s a (wo a)
theorem mWd.of {s s' : MS} (h : mWd s) {ks : List Nat} (ho : only ks s s') (hk : ∀ a ∈ wfs, a ∉ ks) : mWd s' := fun a ha => (h a ha).of (ho a (hk a ha))
/-- the reference reads on at p, no fault yet -/
def mG (T : Int → Int) (n : Int) (s : MS) (p : Int) : Prop := tpOk T n ∧ s 0 = T ∧ s 3 0 = n ∧ s 2 0 = p ∧ s 5 0 = 0 ∧ (0 ≤ p ∧ p ≤ n) ∧ (s 4 0 ≤ p ∧ -1 ≤ s 4 0) ∧ (s 4 0 = p ↔ pd T n p = true) ∧ mWd s ∧ s 6 0 = -1
/-- a fault has come -/
def mB (k pl : Int) (s s' : MS) : Prop := only [2, 4, 5, 6, 34] s s' ∧ s' 5 0 = k ∧ s' 6 0 = pl
theorem b2i_f : b2i false = 0 := rfl
theorem b2i_t : b2i true = 1 := rfl
theorem b2i_d {P : Prop} [Decidable P] : (i32 (b2i (decide P)) = 0) = ¬ P := by
  by_cases h : P
  · rw [decide_eq_true h, b2i_t, i32_id (by omega) (by omega)]; simp [h]
  · rw [decide_eq_false h, b2i_f, i32_id (by omega) (by omega)]; simp [h]
theorem bz_0 : bz 0 := Or.inl (by decide)
theorem bz_1 : bz 1 := Or.inr (by decide)
section
variable {T : Int → Int} {n p : Int} {s s' : MS}
theorem up_self {s : MS} {k : Nat} {i x : Int} (h : s k i = x) : up s k i x = s := by
  funext a b
  unfold up
  split
  · rename_i q; rw [q.1, q.2, h]
  · rfl
theorem up_up (s : MS) (k : Nat) (i x y : Int) : up (up s k i x) k i y = up s k i y := by
  funext a b
  unfold up
  split <;> rfl
theorem up_row {s : MS} {k k' : Nat} {i x : Int} (h : k' ≠ k) : up s k i x k' = s k' := by funext j; exact up_k s i x j h
theorem mG.skip (h : mG T n s p) (ho : only [2] s s') (h2 : s' 2 0 = rn qB T n p) : mG T n s' (rn qB T n p) := by
  obtain ⟨ht, g0, g3, g2, g5, gp, g4, gi, gw⟩ := h
  have e4 : s' 4 = s 4 := ho 4 (by decide)
  have l1 := rn_le (q := qB) (T := T) (n := n) p
  have l2 := rn_hi (q := qB) (T := T) qB_1 gp.2
  refine ⟨ht, by rw [ho 0 (by decide), g0], by rw [ho 3 (by decide), g3], h2, by rw [ho 5 (by decide), g5], ⟨by omega, l2⟩, by rw [e4]; exact ⟨by omega, g4.2⟩, ?_, gw.1.of ho (by decide), by rw [ho 6 (by decide)]; exact gw.2⟩
  rw [e4]
  by_cases c : rn qB T n p = p
  · rw [c]; exact gi
  · rw [pd_sk (by omega)]
    constructor
    · intro h; omega
    · intro h; cases h
theorem pd_rn {k : Int → Bool} (hk : ∀ c, k c = true → qL c = true ∨ qD c = true) {q : Int} (h : q < rn k T n q) : pd T n (rn k T n q) = true := by
  have h1 := rn_in (q := k) (T := T) (n := n) (p := q) (k := rn k T n q - 1) (by omega) (by omega)
  unfold pd
  rcases hk _ h1 with h | h <;> rw [h] <;> simp
theorem mG.token (h : mG T n s p) {k : Int → Bool} (hk : ∀ c, k c = true → qL c = true ∨ qD c = true) (hk1 : k (-1) = false) (hq : p < rn k T n p) {ks : List Nat} (ho : only ks s s') (hks : ∀ a ∈ ([0, 3, 5, 6] ++ wfs : List Nat), a ∉ ks) (h2 : s' 2 0 = rn k T n p) (h4 : s' 4 0 = rn k T n p) : mG T n s' (rn k T n p) := by
  obtain ⟨ht, g0, g3, g2, g5, gp, g4, gi, gw⟩ := h
  have l2 := rn_hi (q := k) (T := T) hk1 gp.2
  refine ⟨ht, by rw [ho 0 (hks 0 (by decide)), g0], by rw [ho 3 (hks 3 (by decide)), g3], h2, by rw [ho 5 (hks 5 (by decide)), g5], ⟨by omega, l2⟩, by rw [h4]; omega, ?_, gw.1.of ho (fun a ha => hks a (List.mem_append_right _ ha)), by rw [ho 6 (hks 6 (by decide))]; exact gw.2⟩
  rw [h4, pd_rn hk hq]
  simp
theorem mG.sign (h : mG T n s p) (hc : qL (bA T n p) = false ∧ qD (bA T n p) = false) (hn : p < n) (ho : only [2] s s') (h2 : s' 2 0 = p + 1) : mG T n s' (p + 1) := by
  obtain ⟨ht, g0, g3, g2, g5, gp, g4, gi, gw⟩ := h
  have e4 : s' 4 = s 4 := ho 4 (by decide)
  refine ⟨ht, by rw [ho 0 (by decide), g0], by rw [ho 3 (by decide), g3], h2, by rw [ho 5 (by decide), g5], ⟨by omega, by omega⟩, by rw [e4]; omega, ?_, gw.1.of ho (by decide), by rw [ho 6 (by decide)]; exact gw.2⟩
  have : pd T n (p + 1) = false := by
    unfold pd
    rw [show p + 1 - 1 = p by omega, hc.1, hc.2]
    rfl
  rw [e4, this]
  constructor
  · intro h; omega
  · intro h; cases h
theorem m_look_go (k : MS → Option (Int × MS)) (ht : tpOk T n) : ∀ (d fuel : Nat) (p : Int) (s : MS), s 0 = T → s 3 0 = n → s 2 0 = p → 0 ≤ p → p ≤ n → (n - p).toNat = d → d < fuel → ∃ s', m_look_L0 k fuel s = k s' ∧ only [2] s s' ∧ s' 2 0 = rn qB T n p := by
  intro d
  induction d with
  | zero =>
    intro fuel p s h0 h3 h2 hp hpn hd hf
    obtain ⟨g, rfl⟩ : ∃ g, fuel = g + 1 := ⟨fuel - 1, by omega⟩
    have hn := ht.1
    have e : p = n := by omega
    refine ⟨s, ?_, only.rf, ?_⟩
    · rw [m_look_L0]
      simp (disch := omega) only [gd_t, gd_T, gd_ok, not_false_eq_true, eq_self, bnd_r, bind_s, ite_t, ite_n, ite_T, ite_F, i32_id, h3, h2]
    · rw [h2]
      exact (rn_stop (by rw [bA_out (by omega)]; exact qB_1)).symm
  | succ d ih =>
    intro fuel p s h0 h3 h2 hp hpn hd hf
    obtain ⟨g, rfl⟩ : ∃ g, fuel = g + 1 := ⟨fuel - 1, by omega⟩
    have hn := ht.1
    have hb := ht.2 p hp (by omega)
    have hbA := bA_in (T := T) hp (show p < n by omega)
    by_cases c : T p = 10 ∨ T p = 32
    · have e : m_look_L0 k (g + 1) s = m_look_L0 k g (up s 2 0 (p + 1)) := by
        rw [m_look_L0]
        rcases c with c | c
        · simp (disch := omega) only [gd_t, gd_T, gd_ok, not_false_eq_true, eq_self, bnd_r, bind_s, ite_t, ite_n, ite_T, ite_F, i32_id, h3, h2, h0, c]
        · simp (disch := omega) only [gd_t, gd_T, gd_ok, not_false_eq_true, eq_self, bnd_r, bind_s, ite_t, ite_n, ite_T, ite_F, i32_id, h3, h2, h0, c]
      obtain ⟨s', e1, e2, e3⟩ := ih g (p + 1) (up s 2 0 (p + 1)) (by rw [← h0]; funext i; rw [up_k _ _ _ _ (by decide)]) (by rw [up_k _ _ _ _ (by decide)]; exact h3) (by rw [up_s]) (by omega) (by omega) (by omega) (by omega)
      refine ⟨s', by rw [e, e1], (only.up (by decide)).tr e2, ?_⟩
      rw [e3]
      exact (rn_step qB_1 (by rw [hbA, qB_t]; omega)).symm
    · refine ⟨s, ?_, only.rf, ?_⟩
      · rw [m_look_L0]
        simp (disch := omega) only [gd_t, gd_T, gd_ok, not_false_eq_true, eq_self, bnd_r, bind_s, ite_t, ite_n, ite_T, ite_F, i32_id, h3, h2, h0]
      · rw [h2]
        exact (rn_stop (by rw [hbA, qB_f]; omega)).symm
theorem m_look_ev (h : mG T n s p) : ∃ s', m_look s = some (bA T n (rn qB T n p), s') ∧ only [2] s s' ∧ mG T n s' (rn qB T n p) := by
  obtain ⟨ht, g0, g3, g2, g5, gp, g4, gi, gw⟩ := id h
  have hn := ht.1
  obtain ⟨s', e1, e2, e3⟩ := m_look_go (fun (s11 : MS) =>
      if i32 (s11 3 0) ≤ i32 (s11 2 0) then
        some ((-1), s11)
      else
        gd (ok 1600 (s11 2 0)) <|
        some ((s11 0 (i32 (s11 2 0))), s11)) ht _ FU p s g0 g3 g2 gp.1 gp.2 rfl (by have := FU_ge; omega)
  have hG := h.skip e2 e3
  refine ⟨s', ?_, e2, hG⟩
  unfold m_look
  rw [e1]
  obtain ⟨-, g0, g3, g2, g5, gp, -⟩ := id hG
  by_cases c : rn qB T n p < n
  · rw [bA_in gp.1 c]
    simp (disch := omega) only [gd_t, gd_T, gd_ok, not_false_eq_true, eq_self, bnd_r, bind_s, ite_t, ite_n, ite_T, ite_F, i32_id, g0, g3, g2]
  · rw [bA_out (by omega)]
    simp (disch := omega) only [gd_t, gd_T, gd_ok, not_false_eq_true, eq_self, bnd_r, bind_s, ite_t, ite_n, ite_T, ite_F, i32_id, g0, g3, g2]
theorem m_look_id (h : mG T n s p) (hp : rn qB T n p = p) : m_look s = some (bA T n p, s) := by
  obtain ⟨ht, g0, g3, g2, g5, gp, g4, gi, gw⟩ := id h
  have hn := ht.1
  have hB : qB (bA T n p) = false := by rw [← hp]; exact rn_end qB_1 p
  obtain ⟨f, hf⟩ := FU_s
  unfold m_look
  rw [hf, m_look_L0]
  by_cases c : p < n
  · rw [bA_in gp.1 c, qB_f] at hB
    have hb := ht.2 p gp.1 (by omega)
    rw [bA_in gp.1 c]
    simp (disch := omega) only [gd_t, gd_T, gd_ok, not_false_eq_true, eq_self, bnd_r, bind_s, ite_t, ite_n, ite_T, ite_F, i32_id, g0, g3, g2]
  · rw [bA_out (by omega)]
    simp (disch := omega) only [gd_t, gd_T, gd_ok, not_false_eq_true, eq_self, bnd_r, bind_s, ite_t, ite_n, ite_T, ite_F, i32_id, g0, g3, g2]
theorem m_isLetter_ev {c : Int} (s : MS) (h : -1 ≤ c ∧ c < 256) : m_isLetter c s = some (b2i (qL c), s) := by
  unfold m_isLetter
  by_cases c1 : c < 97
  · rw [show qL c = false from qL_f.mpr (by omega), b2i_f]; simp (disch := omega) only [gd_t, gd_T, gd_ok, not_false_eq_true, eq_self, bnd_r, bind_s, ite_t, ite_n, ite_T, ite_F, i32_id]
  · by_cases c2 : 122 < c
    · rw [show qL c = false from qL_f.mpr (by omega), b2i_f]; simp (disch := omega) only [gd_t, gd_T, gd_ok, not_false_eq_true, eq_self, bnd_r, bind_s, ite_t, ite_n, ite_T, ite_F, i32_id]
    · rw [show qL c = true from qL_t.mpr (by omega), b2i_t]; simp (disch := omega) only [gd_t, gd_T, gd_ok, not_false_eq_true, eq_self, bnd_r, bind_s, ite_t, ite_n, ite_T, ite_F, i32_id]
theorem m_isDigit_ev {c : Int} (s : MS) (h : -1 ≤ c ∧ c < 256) : m_isDigit c s = some (b2i (qD c), s) := by
  unfold m_isDigit
  by_cases c1 : c < 48
  · rw [show qD c = false from qD_f.mpr (by omega), b2i_f]; simp (disch := omega) only [gd_t, gd_T, gd_ok, not_false_eq_true, eq_self, bnd_r, bind_s, ite_t, ite_n, ite_T, ite_F, i32_id]
  · by_cases c2 : 57 < c
    · rw [show qD c = false from qD_f.mpr (by omega), b2i_f]; simp (disch := omega) only [gd_t, gd_T, gd_ok, not_false_eq_true, eq_self, bnd_r, bind_s, ite_t, ite_n, ite_T, ite_F, i32_id]
    · rw [show qD c = true from qD_t.mpr (by omega), b2i_t]; simp (disch := omega) only [gd_t, gd_T, gd_ok, not_false_eq_true, eq_self, bnd_r, bind_s, ite_t, ite_n, ite_T, ite_F, i32_id]
theorem m_here35 (ht : tpOk T n) (k : Nat → Int → MS → Option (Int × MS)) (a : Nat) (s : MS) (h0 : s 0 = T) (h3 : s 3 0 = n) : ∀ (d fuel : Nat) (x : Int), 0 ≤ x → x ≤ n → (n - x).toNat = d → d < fuel → m_isHere_L35 k fuel a x s = k a (rn qL T n x) s := by
  have hn := ht.1
  intro d
  induction d with
  | zero =>
    intro fuel x hx hxn hd hf
    obtain ⟨g, rfl⟩ : ∃ g, fuel = g + 1 := ⟨fuel - 1, by omega⟩
    rw [m_isHere_L35, rn_stop (by rw [bA_out (by omega)]; exact qL_1)]
    simp (disch := omega) only [gd_t, gd_T, gd_ok, not_false_eq_true, eq_self, bnd_r, bind_s, ite_t, ite_n, ite_T, ite_F, i32_id, h3]
  | succ d ih =>
    intro fuel x hx hxn hd hf
    obtain ⟨g, rfl⟩ : ∃ g, fuel = g + 1 := ⟨fuel - 1, by omega⟩
    have hb := ht.2 x hx (by omega)
    have hbA := bA_in (T := T) hx (show x < n by omega)
    rw [m_isHere_L35]
    cases c : qL (T x) with
    | false =>
      rw [rn_stop (by rw [hbA]; exact c)]
      simp (disch := omega) only [gd_t, gd_T, gd_ok, not_false_eq_true, eq_self, bnd_r, bind_s, ite_t, ite_n, ite_T, ite_F, i32_id, h3, h0, m_isLetter_ev s (c := T x) (by omega), c, b2i_f]
    | true =>
      rw [rn_step qL_1 (by rw [hbA]; exact c)]
      simp (disch := omega) only [gd_t, gd_T, gd_ok, not_false_eq_true, eq_self, bnd_r, bind_s, ite_t, ite_n, ite_T, ite_F, i32_id, h3, h0, m_isLetter_ev s (c := T x) (by omega), c, b2i_t]
      exact ih g (x + 1) (by omega) (by omega) (by omega) (by omega)
theorem m_here76 (ht : tpOk T n) (k1 k2 : MS → Option (Int × MS)) {a : Nat} (ha : a ∈ wfs) (s : MS) (h0 : s 0 = T) {q : Int} (h2 : s 2 0 = q) (hq : 0 ≤ q) (hqn : q + (wo a).length ≤ n) (hw : holdsL s a (wo a)) : ∀ (d fuel : Nat) (x : Int), 0 ≤ x → x + d = (wo a).length → d < fuel →
    ((∀ j : Int, x ≤ j → j < (wo a).length → T (q + j) = (wo a).getD j.toNat 0) → m_isHere_L76 k1 k2 fuel a x s = k1 s) ∧ (¬ (∀ j : Int, x ≤ j → j < (wo a).length → T (q + j) = (wo a).getD j.toNat 0) → m_isHere_L76 k1 k2 fuel a x s = k2 s) := by
  have hn := ht.1
  obtain ⟨o1, o2, o3, -⟩ := wo_ok a ha
  intro d
  induction d with
  | zero =>
    intro fuel x hx hd hf
    obtain ⟨g, rfl⟩ : ∃ g, fuel = g + 1 := ⟨fuel - 1, by omega⟩
    rw [m_isHere_L76]
    constructor
    · intro _
      simp (disch := omega) only [gd_t, gd_T, gd_ok, not_false_eq_true, eq_self, bnd_r, bind_s, ite_t, ite_n, ite_T, ite_F, i32_id, gd_t o1, o2]
    · intro h
      exact absurd (fun j h1 h2 => by omega) h
  | succ d ih =>
    intro fuel x hx hd hf
    obtain ⟨g, rfl⟩ : ∃ g, fuel = g + 1 := ⟨fuel - 1, by omega⟩
    have hb := ht.2 (q + x) (by omega) (by omega)
    have hg := wo_get ha hx (by omega)
    have e := hw x hx (by omega)
    obtain ⟨ih1, ih2⟩ := ih g (x + 1) (by omega) (by omega) (by omega)
    rw [m_isHere_L76]
    by_cases c : T (q + x) = (wo a).getD x.toNat 0
    · constructor
      · intro h
        simp (disch := omega) only [gd_t, gd_T, gd_ok, not_false_eq_true, eq_self, bnd_r, bind_s, ite_t, ite_n, ite_T, ite_F, i32_id, gd_t o1, o2, h2, h0, e]
        exact ih1 fun j h1 h2 => h j (by omega) h2
      · intro h
        simp (disch := omega) only [gd_t, gd_T, gd_ok, not_false_eq_true, eq_self, bnd_r, bind_s, ite_t, ite_n, ite_T, ite_F, i32_id, gd_t o1, o2, h2, h0, e]
        refine ih2 fun h' => h fun j h1 h2 => ?_
        by_cases cj : j = x
        · rw [cj]; exact c
        · exact h' j (by omega) h2
    · constructor
      · intro h
        exact absurd (h x (by omega) (by omega)) c
      · intro h
        simp (disch := omega) only [gd_t, gd_T, gd_ok, not_false_eq_true, eq_self, bnd_r, bind_s, ite_t, ite_n, ite_T, ite_F, i32_id, gd_t o1, o2, h2, h0, e]
theorem wdl_eq {q r : Int} {w : List Int} (h : q ≤ r) : wdl T q r = w ↔ r - q = w.length ∧ ∀ j : Int, 0 ≤ j → j < w.length → T (q + j) = w.getD j.toNat 0 := by
  constructor
  · intro e
    have hl : (r - q).toNat = w.length := by rw [← e, wdl_len]
    refine ⟨by omega, fun j h0 h1 => ?_⟩
    have := wdl_get (T := T) (p := q) (q := r) (i := j.toNat) (by omega)
    rw [e] at this
    rw [List.getD_eq_getElem?_getD, this, Int.toNat_of_nonneg h0]
    rfl
  · intro ⟨h1, h2⟩
    apply List.ext_getElem?
    intro i
    by_cases c : i < w.length
    · rw [wdl_get (by omega), List.getElem?_eq_getElem c]
      have := h2 i (by omega) (by omega)
      rw [this, List.getD_eq_getElem?_getD, Int.toNat_natCast, List.getElem?_eq_getElem c]
      rfl
    · rw [List.getElem?_eq_none (by rw [wdl_len]; omega), List.getElem?_eq_none (by omega)]
/-- a word is here, where nothing is to be skipped -/
theorem m_isHere_at (h : mG T n s p) (hp : m_look s = some (bA T n p, s)) {a : Nat} (ha : a ∈ wfs) : m_isHere a s = some (b2i (hereW T n p (wo a)), s) := by
  obtain ⟨ht, g0, g3, g2, g5, gp, g4, gi, gw⟩ := id h
  have hn := ht.1
  have hb := bA_b ht p
  have hr := rn_hi (q := qL) (T := T) qL_1 gp.2
  have hr2 := rn_le (q := qL) (T := T) (n := n) p
  obtain ⟨o1, o2, o3, -⟩ := wo_ok a ha
  unfold m_isHere
  cases c1 : qL (bA T n p) with
  | false =>
    rw [show hereW T n p (wo a) = false by simp [hereW, c1], b2i_f]
    simp (disch := omega) only [gd_t, gd_T, gd_ok, not_false_eq_true, eq_self, bnd_r, bind_s, ite_t, ite_n, ite_T, ite_F, i32_id, g5, hp, m_isLetter_ev s hb, c1, b2i_f]
  | true =>
    cases c2 : pd T n p with
    | true =>
      rw [show hereW T n p (wo a) = false by simp [hereW, c2], b2i_f]
      have := gi.mpr c2
      simp (disch := omega) only [gd_t, gd_T, gd_ok, not_false_eq_true, eq_self, bnd_r, bind_s, ite_t, ite_n, ite_T, ite_F, i32_id, g5, hp, m_isLetter_ev s hb, c1, b2i_t, g2]
    | false =>
      have hne : s 4 0 ≠ p := fun e => by rw [gi.mp e] at c2; cases c2
      have h35 := fun k => m_here35 ht k a s g0 g3 _ FU p gp.1 gp.2 rfl (by have := FU_ge; omega)
      by_cases c4 : rn qL T n p - p = (wo a).length
      · obtain ⟨j1, j2⟩ := m_here76 ht (fun (s37 : MS) => some (1, s37)) (fun (s38 : MS) => some (0, s38)) ha s g0 g2 gp.1 (by omega) (gw.1 a ha) _ FU 0 (by omega) (show (0 : Int) + ((wo a).length : Nat) = _ by omega) (by have := FU_ge; omega)
        by_cases c3 : wrd T n p = wo a
        · rw [show hereW T n p (wo a) = true by simp [hereW, c1, c2, c3], b2i_t]
          simp (disch := omega) only [gd_t, gd_T, gd_ok, not_false_eq_true, eq_self, bnd_r, bind_s, ite_t, ite_n, ite_T, ite_F, i32_id, g5, hp, m_isLetter_ev s hb, c1, b2i_t, g2, h35, gd_t o1, o2]
          exact j1 ((wdl_eq hr2).mp c3).2
        · rw [show hereW T n p (wo a) = false by simp [hereW, c3], b2i_f]
          simp (disch := omega) only [gd_t, gd_T, gd_ok, not_false_eq_true, eq_self, bnd_r, bind_s, ite_t, ite_n, ite_T, ite_F, i32_id, g5, hp, m_isLetter_ev s hb, c1, b2i_t, g2, h35, gd_t o1, o2]
          exact j2 fun hA => c3 ((wdl_eq hr2).mpr ⟨c4, hA⟩)
      · have c3 : ¬ wrd T n p = wo a := fun e => c4 ((wdl_eq hr2).mp e).1
        rw [show hereW T n p (wo a) = false by simp [hereW, c3], b2i_f]
        simp (disch := omega) only [gd_t, gd_T, gd_ok, not_false_eq_true, eq_self, bnd_r, bind_s, ite_t, ite_n, ite_T, ite_F, i32_id, g5, hp, m_isLetter_ev s hb, c1, b2i_t, g2, h35, gd_t o1, o2]
theorem m_isHere_id (h : mG T n s p) (hp : rn qB T n p = p) {a : Nat} (ha : a ∈ wfs) : m_isHere a s = some (b2i (hereW T n p (wo a)), s) := m_isHere_at h (m_look_id h hp) ha
theorem m_isHere_skip (h : mG T n s p) (h' : mG T n s' (rn qB T n p)) (e : m_look s = some (bA T n (rn qB T n p), s')) (a : Nat) : m_isHere a s = m_isHere a s' := by
  have e2 := m_look_id h' (sk_sk T n p)
  have h5 : s 5 0 = 0 := h.2.2.2.2.1
  have h5' : s' 5 0 = 0 := h'.2.2.2.2.1
  unfold m_isHere
  rw [h5, h5', e, e2, i32_0, if_pos rfl, if_pos rfl]
theorem m_isHere_ev (h : mG T n s p) {a : Nat} (ha : a ∈ wfs) : ∃ s', m_isHere a s = some (b2i (hereW T n (rn qB T n p) (wo a)), s') ∧ only [2] s s' ∧ mG T n s' (rn qB T n p) := by
  obtain ⟨s1, e1, e2, e3⟩ := m_look_ev h
  exact ⟨s1, by rw [m_isHere_skip h e3 e1, m_isHere_id e3 (sk_sk T n p) ha], e2, e3⟩
theorem hereW_at {w : List Int} (h : hereW T n p w = true) : qL (bA T n p) = true ∧ pd T n p = false ∧ wrd T n p = w := by
  simp only [hereW, Bool.and_eq_true, Bool.not_eq_true', decide_eq_true_eq] at h
  exact ⟨h.1.1, h.1.2, h.2⟩
theorem qL_qL : ∀ c, qL c = true → qL c = true ∨ qD c = true := fun _ h => Or.inl h
theorem qD_qD : ∀ c, qD c = true → qL c = true ∨ qD c = true := fun _ h => Or.inr h
theorem m_takes_t (h : mG T n s p) {a : Nat} (ha : a ∈ wfs) (hw : hereW T n (rn qB T n p) (wo a) = true) : ∃ s', m_takes a s = some (1, s') ∧ only [2, 4] s s' ∧ mG T n s' (rn qL T n (rn qB T n p)) := by
  obtain ⟨s1, e1, e2, e3⟩ := m_isHere_ev h ha
  obtain ⟨c1, c2, c3⟩ := hereW_at hw
  obtain ⟨o1, o2, o3, -⟩ := wo_ok a ha
  have hr2 := rn_le (q := qL) (T := T) (n := n) (rn qB T n p)
  have hl := ((wdl_eq hr2).mp c3).1
  have g2 : s1 2 0 = rn qB T n p := e3.2.2.2.1
  have er : rn qB T n p + (wo a).length = rn qL T n (rn qB T n p) := by omega
  refine ⟨up (up s1 2 0 (rn qL T n (rn qB T n p))) 4 0 (rn qL T n (rn qB T n p)), ?_, (e2.mono (by decide)).tr ((only.up (by decide)).tr (only.up (by decide))), e3.token qL_qL qL_1 (rn_lt qL_1 c1) ((only.up (by decide)).tr (only.up (by decide))) (ks := [2, 4]) (by decide) (by rw [up_k _ _ _ _ (by decide), up_s]) (by rw [up_s])⟩
  unfold m_takes
  rw [e1, hw, b2i_t]
  simp (disch := omega) only [gd_t, gd_T, gd_ok, not_false_eq_true, eq_self, bnd_r, bind_s, ite_t, ite_n, ite_T, ite_F, i32_id, gd_t o1, o2, g2, er, up_s]
theorem m_takes_f (h : mG T n s p) {a : Nat} (ha : a ∈ wfs) (hw : hereW T n (rn qB T n p) (wo a) = false) : ∃ s', m_takes a s = some (0, s') ∧ only [2] s s' ∧ mG T n s' (rn qB T n p) := by
  obtain ⟨s1, e1, e2, e3⟩ := m_isHere_ev h ha
  refine ⟨s1, ?_, e2, e3⟩
  unfold m_takes
  rw [e1, hw, b2i_f]
  simp (disch := omega) only [gd_t, gd_T, gd_ok, not_false_eq_true, eq_self, bnd_r, bind_s, ite_t, ite_n, ite_T, ite_F, i32_id]
theorem m_fail_ev {k pl : Int} (h : s 5 0 = 0) : m_fail k pl s = some (0, up (up s 5 0 k) 6 0 pl) := by
  unfold m_fail
  simp (disch := omega) only [gd_t, gd_T, gd_ok, not_false_eq_true, eq_self, bnd_r, bind_s, ite_t, ite_n, ite_T, ite_F, i32_id, h]
theorem mB.up {k pl : Int} {s0 : MS} {ks : List Nat} (ho : only ks s0 s) (hk : ∀ a ∈ ks, a ∈ ([2, 4, 34] : List Nat)) : mB k pl s0 (up (up s 5 0 k) 6 0 pl) :=
  ⟨(ho.mono fun a ha => by have := hk a ha; simp at this ⊢; omega).tr ((only.up (by decide)).tr (only.up (by decide))), by rw [up_k _ _ _ _ (by decide), up_s], by rw [up_s]⟩
theorem m_asks_t (h : mG T n s p) {a : Nat} (ha : a ∈ wfs) (hw : hereW T n (rn qB T n p) (wo a) = true) : ∃ s', m_asks a s = some (0, s') ∧ only [2, 4] s s' ∧ mG T n s' (rn qL T n (rn qB T n p)) := by
  obtain ⟨s1, e1, e2, e3⟩ := m_takes_t h ha hw
  have h5 : s 5 0 = 0 := h.2.2.2.2.1
  refine ⟨s1, ?_, e2, e3⟩
  unfold m_asks
  simp (disch := omega) only [gd_t, gd_T, gd_ok, not_false_eq_true, eq_self, bnd_r, bind_s, ite_t, ite_n, ite_T, ite_F, i32_id, h5, e1]
theorem m_asks_f (h : mG T n s p) {a : Nat} (ha : a ∈ wfs) (hw : hereW T n (rn qB T n p) (wo a) = false) : ∃ s', m_asks a s = some (0, s') ∧ mB 1 (rn qB T n p) s s' := by
  obtain ⟨s1, e1, e2, e3⟩ := m_takes_f h ha hw
  have h5 : s 5 0 = 0 := h.2.2.2.2.1
  have h5' : s1 5 0 = 0 := e3.2.2.2.2.1
  have g2 : s1 2 0 = rn qB T n p := e3.2.2.2.1
  refine ⟨up (up s1 5 0 1) 6 0 (rn qB T n p), ?_, mB.up e2 (by decide)⟩
  unfold m_asks
  simp (disch := omega) only [gd_t, gd_T, gd_ok, not_false_eq_true, eq_self, bnd_r, bind_s, ite_t, ite_n, ite_T, ite_F, i32_id, h5, e1, m_fail_ev h5', g2]
/-- signs -/
def sgn (c : Int) : Prop := 0 ≤ c ∧ c < 128 ∧ qL c = false ∧ qD c = false
theorem m_takesSign_t (h : mG T n s p) {c : Int} (hc : sgn c) (hw : bA T n (rn qB T n p) = c) : ∃ s', m_takesSign c s = some (1, s') ∧ only [2] s s' ∧ mG T n s' (rn qB T n p + 1) := by
  obtain ⟨s1, e1, e2, e3⟩ := m_look_ev h
  have h5 : s 5 0 = 0 := h.2.2.2.2.1
  have g2 : s1 2 0 = rn qB T n p := e3.2.2.2.1
  obtain ⟨c1, c2, c3, c4⟩ := hc
  have hin := bA_at (T := T) (n := n) (p := rn qB T n p) (by omega)
  refine ⟨up s1 2 0 (rn qB T n p + 1), ?_, e2.tr (only.up (by decide)), e3.sign (by rw [hw]; exact ⟨c3, c4⟩) hin.2 (only.up (by decide)) (by rw [up_s])⟩
  unfold m_takesSign
  rw [e1, hw]
  simp (disch := omega) only [gd_t, gd_T, gd_ok, not_false_eq_true, eq_self, bnd_r, bind_s, ite_t, ite_n, ite_T, ite_F, i32_id, h5, g2]
theorem m_takesSign_f (h : mG T n s p) {c : Int} (hc : sgn c) (hw : bA T n (rn qB T n p) ≠ c) : ∃ s', m_takesSign c s = some (0, s') ∧ only [2] s s' ∧ mG T n s' (rn qB T n p) := by
  obtain ⟨s1, e1, e2, e3⟩ := m_look_ev h
  have h5 : s 5 0 = 0 := h.2.2.2.2.1
  have hb := bA_b h.1 (rn qB T n p)
  obtain ⟨c1, c2, -⟩ := hc
  refine ⟨s1, ?_, e2, e3⟩
  unfold m_takesSign
  rw [e1]
  simp (disch := omega) only [gd_t, gd_T, gd_ok, not_false_eq_true, eq_self, bnd_r, bind_s, ite_t, ite_n, ite_T, ite_F, i32_id, h5]
theorem m_asksSign_t (h : mG T n s p) {c : Int} (hc : sgn c) (hw : bA T n (rn qB T n p) = c) : ∃ s', m_asksSign c s = some (0, s') ∧ only [2] s s' ∧ mG T n s' (rn qB T n p + 1) := by
  obtain ⟨s1, e1, e2, e3⟩ := m_takesSign_t h hc hw
  have h5 : s 5 0 = 0 := h.2.2.2.2.1
  refine ⟨s1, ?_, e2, e3⟩
  unfold m_asksSign
  simp (disch := omega) only [gd_t, gd_T, gd_ok, not_false_eq_true, eq_self, bnd_r, bind_s, ite_t, ite_n, ite_T, ite_F, i32_id, h5, e1]
theorem m_asksSign_f (h : mG T n s p) {c : Int} (hc : sgn c) (hw : bA T n (rn qB T n p) ≠ c) : ∃ s', m_asksSign c s = some (0, s') ∧ mB 1 (rn qB T n p) s s' := by
  obtain ⟨s1, e1, e2, e3⟩ := m_takesSign_f h hc hw
  have h5 : s 5 0 = 0 := h.2.2.2.2.1
  have h5' : s1 5 0 = 0 := e3.2.2.2.2.1
  have g2 : s1 2 0 = rn qB T n p := e3.2.2.2.1
  refine ⟨up (up s1 5 0 1) 6 0 (rn qB T n p), ?_, mB.up e2 (by decide)⟩
  unfold m_asksSign
  simp (disch := omega) only [gd_t, gd_T, gd_ok, not_false_eq_true, eq_self, bnd_r, bind_s, ite_t, ite_n, ite_T, ite_F, i32_id, h5, e1, m_fail_ev h5', g2]
theorem m_isIn_ev {a b c : Int} (s : MS) (ha : -9000000000000000000 ≤ a ∧ a ≤ 9000000000000000000) (hb : -9000000000000000000 ≤ b ∧ b ≤ 9000000000000000000) (hc : -9000000000000000000 ≤ c ∧ c ≤ 9000000000000000000) : m_isIn a b c s = some (b2i (decide (b ≤ a ∧ a ≤ c)), s) := by
  unfold m_isIn
  by_cases c1 : a < b
  · rw [decide_eq_false (by omega), b2i_f]; simp (disch := omega) only [gd_t, gd_T, gd_ok, not_false_eq_true, eq_self, bnd_r, bind_s, ite_t, ite_n, ite_T, ite_F, i32_id, i64_id]
  · by_cases c2 : c < a
    · rw [decide_eq_false (by omega), b2i_f]; simp (disch := omega) only [gd_t, gd_T, gd_ok, not_false_eq_true, eq_self, bnd_r, bind_s, ite_t, ite_n, ite_T, ite_F, i32_id, i64_id]
    · rw [decide_eq_true (by omega), b2i_t]; simp (disch := omega) only [gd_t, gd_T, gd_ok, not_false_eq_true, eq_self, bnd_r, bind_s, ite_t, ite_n, ite_T, ite_F, i32_id, i64_id]
theorem m_num_go (ht : tpOk T n) (k1 : Int → Int → Int → Int → MS → Option (Int × MS)) (k2 : MS → Option (Int × MS)) (lo hi : Int) {q e : Int} (hq : 0 ≤ q) (he : e ≤ rn qD T n q) (hen : e ≤ n) (he4 : e ≤ q + 4) : ∀ (d fuel : Nat) (x : Int) (s : MS), s 0 = T → s 3 0 = n → s 2 0 = x → q ≤ x → x + d = e → d ≤ fuel → m_number_L49 k1 k2 fuel lo hi q (nVl (wdl T q x)) s = m_number_L49 k1 k2 (fuel - d) lo hi q (nVl (wdl T q e)) (up s 2 0 e) := by
  have hn := ht.1
  intro d
  induction d with
  | zero =>
    intro fuel x s h0 h3 h2 hx hd hf
    have : x = e := by omega
    subst this
    rw [up_self h2]
    rfl
  | succ d ih =>
    intro fuel x s h0 h3 h2 hx hd hf
    obtain ⟨g, rfl⟩ : ∃ g, fuel = g + 1 := ⟨fuel - 1, by omega⟩
    have hb := ht.2 x (by omega) (by omega)
    have hdg : qD (T x) = true := by rw [← bA_in (T := T) (n := n) (p := x) (by omega) (by omega)]; exact rn_in (q := qD) (p := q) (by omega) (by omega)
    have e1 : m_number_L49 k1 k2 (g + 1) lo hi q (nVl (wdl T q x)) s = m_number_L49 k1 k2 g lo hi q (nVl (wdl T q (x + 1))) (up s 2 0 (x + 1)) := by
      rw [m_number_L49, wdl_snoc hx, nVl_snoc]
      simp (disch := omega) only [gd_t, gd_T, gd_ok, not_false_eq_true, eq_self, bnd_r, bind_s, ite_t, ite_n, ite_T, ite_F, i32_id, h3, h2, h0, m_isDigit_ev s (c := T x) (by omega), hdg, b2i_t]
    have f1 := ih g (x + 1) (up s 2 0 (x + 1)) (by rw [up_row (by decide)]; exact h0) (by rw [up_row (by decide)]; exact h3) (by rw [up_s]) (by omega) (by omega) (by omega)
    rw [up_up] at f1
    rw [e1, f1, show g + 1 - (d + 1) = g - d by omega]
theorem wdl_dig {q e : Int} (hq : 0 ≤ q) (he : e ≤ rn qD T n q) : ∀ c ∈ wdl T q e, 48 ≤ c ∧ c ≤ 57 := by
  intro c hc
  unfold wdl at hc
  obtain ⟨i, hi, rfl⟩ := List.mem_map.mp hc
  have hi := List.mem_range.mp hi
  have h1 := rn_in (q := qD) (T := T) (n := n) (p := q) (k := q + i) (by omega) (by omega)
  have h2 : bA T n (q + i) ≠ -1 := fun e => by rw [e] at h1; cases h1
  have h3 := bA_at h2
  rw [bA_in h3.1 h3.2, qD_t] at h1
  exact h1
theorem m_number_ev (h : mG T n s p) {lo hi : Int} (hlo : 0 ≤ lo ∧ lo ≤ 100000) (hhi : 0 ≤ hi ∧ hi ≤ 100000) :
    ((tkN T n p lo hi).1 = 0 → ∃ s', m_number lo hi s = some ((tkN T n p lo hi).2.1, s') ∧ only [2, 4] s s' ∧ mG T n s' (tkN T n p lo hi).2.2) ∧ ((tkN T n p lo hi).1 ≠ 0 → ∃ v s', m_number lo hi s = some (v, s') ∧ (0 ≤ v ∧ v < 10000) ∧ mB (tkN T n p lo hi).1 (tkN T n p lo hi).2.1 s s') := by
  obtain ⟨s1, e1, e2, e3⟩ := m_look_ev h
  obtain ⟨ht, g0, g3, g2, g5, gp, g4, gi, gw⟩ := id e3
  have h5 : s 5 0 = 0 := h.2.2.2.2.1
  have hn := ht.1
  have hb := bA_b ht (rn qB T n p)
  unfold tkN
  generalize hq : rn qB T n p = q at *
  by_cases c1 : qD (bA T n q) = true ∧ pd T n q = false
  · have hne : s1 4 0 ≠ q := fun e => by rw [gi.mp e] at c1; cases c1.2
    have hr := rn_hi (q := qD) (T := T) qD_1 gp.2
    have hr2 := rn_lt (q := qD) (T := T) (n := n) qD_1 c1.1
    have hFU := FU_ge
    rw [if_pos c1]
    by_cases c2 : rn qD T n q - q ≤ 4
    · rw [if_pos c2]
      have hv := nVl_b _ (wdl T q (rn qD T n q)) rfl (wdl_dig gp.1 (Int.le_refl _))
      have hv2 : nVl (wdl T q (rn qD T n q)) < 10000 := by
        rw [wdl_len] at hv
        have : (10 : Int) ^ (rn qD T n q - q).toNat ≤ 10 ^ 4 := by
          have : (rn qD T n q - q).toNat ≤ 4 := by omega
          rcases (show (rn qD T n q - q).toNat = 0 ∨ (rn qD T n q - q).toNat = 1 ∨ (rn qD T n q - q).toNat = 2 ∨ (rn qD T n q - q).toNat = 3 ∨ (rn qD T n q - q).toNat = 4 by omega) with h | h | h | h | h <;> rw [h] <;> decide
        omega
      have hdg : qD (bA T n (rn qD T n q)) = false := rn_end qD_1 q
      have key : ∃ s2, only [2, 4] s1 s2 ∧ s2 2 0 = rn qD T n q ∧ s2 4 0 = rn qD T n q ∧ m_number lo hi s = (if lo ≤ nVl (wdl T q (rn qD T n q)) ∧ nVl (wdl T q (rn qD T n q)) ≤ hi then some (nVl (wdl T q (rn qD T n q)), s2) else some (nVl (wdl T q (rn qD T n q)), up (up s2 5 0 2) 6 0 q)) := by
        have hgo := fun k1 k2 => m_num_go ht k1 k2 lo hi gp.1 (Int.le_refl _) hr (by omega) (rn qD T n q - q).toNat FU q s1 g0 g3 g2 (Int.le_refl _) (by omega) (by omega)
        obtain ⟨s2, hs2⟩ : ∃ s2, up s1 2 0 (rn qD T n q) = s2 := ⟨_, rfl⟩
        rw [hs2] at hgo
        have f2 : only [2] s1 s2 := by rw [← hs2]; exact only.up (by decide)
        have f3 : s2 2 0 = rn qD T n q := by rw [← hs2, up_s]
        obtain ⟨f, hf⟩ : ∃ f, FU - (rn qD T n q - q).toNat = f + 1 := ⟨FU - (rn qD T n q - q).toNat - 1, by omega⟩
        have e0 : s2 0 = T := by rw [f2 0 (by decide), g0]
        have e33 : s2 3 0 = n := by rw [f2 3 (by decide), g3]
        have e5 : s2 5 0 = 0 := by rw [f2 5 (by decide), g5]
        refine ⟨up s2 4 0 (rn qD T n q), (f2.mono (by decide)).tr (only.up (by decide)), by rw [up_k _ _ _ _ (by decide)]; exact f3, by rw [up_s], ?_⟩
        have e55 : up s2 4 0 (rn qD T n q) 5 0 = 0 := by rw [up_k _ _ _ _ (by decide)]; exact e5
        unfold m_number
        have hw0 : nVl (wdl T q q) = 0 := by rw [wdl_nil]; rfl
        rw [hw0] at hgo
        simp (disch := omega) only [gd_t, gd_T, gd_ok, not_false_eq_true, eq_self, bnd_r, bind_s, ite_t, ite_n, ite_T, ite_F, i32_id, h5, e1, m_isDigit_ev s1 hb, c1.1, b2i_t, g2, hgo]
        rw [hf, m_number_L49]
        have stop : (n ≤ rn qD T n q) ∨ (rn qD T n q < n ∧ qD (T (rn qD T n q)) = false) := by
          by_cases c : rn qD T n q < n
          · right; rw [bA_in (by omega) c] at hdg; exact ⟨c, hdg⟩
          · left; omega
        rcases stop with c | ⟨c, cd⟩
        · by_cases c3 : lo ≤ nVl (wdl T q (rn qD T n q)) ∧ nVl (wdl T q (rn qD T n q)) ≤ hi
          · rw [if_pos c3]
            simp (disch := omega) only [gd_t, gd_T, gd_ok, not_false_eq_true, eq_self, bnd_r, bind_s, ite_t, ite_n, ite_T, ite_F, i32_id, e33, f3, m_isIn_ev (up s2 4 0 (rn qD T n q)) (a := nVl (wdl T q (rn qD T n q))) (b := lo) (c := hi) (by omega) (by omega) (by omega), decide_eq_true c3, b2i_t]
          · rw [if_neg c3]
            simp (disch := omega) only [gd_t, gd_T, gd_ok, not_false_eq_true, eq_self, bnd_r, bind_s, ite_t, ite_n, ite_T, ite_F, i32_id, e33, f3, m_isIn_ev (up s2 4 0 (rn qD T n q)) (a := nVl (wdl T q (rn qD T n q))) (b := lo) (c := hi) (by omega) (by omega) (by omega), decide_eq_false c3, b2i_f, m_fail_ev e55]
        · have hb2 := ht.2 (rn qD T n q) (by omega) (by omega)
          by_cases c3 : lo ≤ nVl (wdl T q (rn qD T n q)) ∧ nVl (wdl T q (rn qD T n q)) ≤ hi
          · rw [if_pos c3]
            simp (disch := omega) only [gd_t, gd_T, gd_ok, not_false_eq_true, eq_self, bnd_r, bind_s, ite_t, ite_n, ite_T, ite_F, i32_id, e33, f3, e0, m_isDigit_ev s2 (c := T (rn qD T n q)) (by omega), cd, b2i_f, m_isIn_ev (up s2 4 0 (rn qD T n q)) (a := nVl (wdl T q (rn qD T n q))) (b := lo) (c := hi) (by omega) (by omega) (by omega), decide_eq_true c3, b2i_t]
          · rw [if_neg c3]
            simp (disch := omega) only [gd_t, gd_T, gd_ok, not_false_eq_true, eq_self, bnd_r, bind_s, ite_t, ite_n, ite_T, ite_F, i32_id, e33, f3, e0, m_isDigit_ev s2 (c := T (rn qD T n q)) (by omega), cd, b2i_f, m_isIn_ev (up s2 4 0 (rn qD T n q)) (a := nVl (wdl T q (rn qD T n q))) (b := lo) (c := hi) (by omega) (by omega) (by omega), decide_eq_false c3, m_fail_ev e55]
      obtain ⟨s2, k1, k2, k3, k4⟩ := key
      by_cases c3 : lo ≤ nVl (wdl T q (rn qD T n q)) ∧ nVl (wdl T q (rn qD T n q)) ≤ hi
      · rw [if_pos c3] at k4
        simp only [if_pos c3]
        refine ⟨fun _ => ⟨s2, k4, (e2.mono (by decide)).tr k1, e3.token qD_qD qD_1 hr2 k1 (by decide) k2 k3⟩, fun h => absurd rfl h⟩
      · rw [if_neg c3] at k4
        simp only [if_neg c3]
        refine ⟨fun h => by omega, fun _ => ⟨_, _, k4, by omega, mB.up ((e2.mono (by decide)).tr k1) (by decide)⟩⟩
    · simp only [if_neg c2]
      refine ⟨fun h => by omega, fun _ => ?_⟩
      have hgo := fun k1 k2 => m_num_go ht k1 k2 lo hi gp.1 (e := q + 4) (by omega) (by omega) (by omega) 4 FU q s1 g0 g3 g2 (Int.le_refl _) (by omega) (by omega)
      obtain ⟨s2, hs2⟩ : ∃ s2, up s1 2 0 (q + 4) = s2 := ⟨_, rfl⟩
      rw [hs2] at hgo
      have f2 : only [2] s1 s2 := by rw [← hs2]; exact only.up (by decide)
      have f3 : s2 2 0 = q + 4 := by rw [← hs2, up_s]
      obtain ⟨f, hf⟩ : ∃ f, FU - 4 = f + 1 := ⟨FU - 4 - 1, by omega⟩
      have e0 : s2 0 = T := by rw [f2 0 (by decide), g0]
      have e33 : s2 3 0 = n := by rw [f2 3 (by decide), g3]
      have e5 : s2 5 0 = 0 := by rw [f2 5 (by decide), g5]
      have hb2 := ht.2 (q + 4) (by omega) (by omega)
      have hdg : qD (T (q + 4)) = true := by rw [← bA_in (T := T) (n := n) (p := q + 4) (by omega) (by omega)]; exact rn_in (q := qD) (p := q) (by omega) (by omega)
      have hw0 : nVl (wdl T q q) = 0 := by rw [wdl_nil]; rfl
      rw [hw0] at hgo
      refine ⟨0, up (up s2 5 0 1) 6 0 (q + 4), ?_, by omega, mB.up (e2.tr f2) (by decide)⟩
      unfold m_number
      simp (disch := omega) only [gd_t, gd_T, gd_ok, not_false_eq_true, eq_self, bnd_r, bind_s, ite_t, ite_n, ite_T, ite_F, i32_id, h5, e1, m_isDigit_ev s1 hb, c1.1, b2i_t, g2, hgo]
      rw [hf, m_number_L49]
      simp (disch := omega) only [gd_t, gd_T, gd_ok, not_false_eq_true, eq_self, bnd_r, bind_s, ite_t, ite_n, ite_T, ite_F, i32_id, e33, f3, e0, m_isDigit_ev s2 (c := T (q + 4)) (by omega), hdg, b2i_t, m_fail_ev e5, show q + 4 - q = 4 by omega]
  · simp only [if_neg c1]
    refine ⟨fun h => by omega, fun _ => ⟨0, up (up s1 5 0 1) 6 0 q, ?_, by omega, mB.up e2 (by decide)⟩⟩
    unfold m_number
    cases c2 : qD (bA T n q) with
    | false =>
      simp (disch := omega) only [gd_t, gd_T, gd_ok, not_false_eq_true, eq_self, bnd_r, bind_s, ite_t, ite_n, ite_T, ite_F, i32_id, h5, e1, m_isDigit_ev s1 hb, c2, b2i_f, m_fail_ev g5, g2]
    | true =>
      have c3 : pd T n q = true := by
        cases hh : pd T n q with
        | true => rfl
        | false => exact absurd ⟨c2, hh⟩ c1
      have := gi.mpr c3
      simp (disch := omega) only [gd_t, gd_T, gd_ok, not_false_eq_true, eq_self, bnd_r, bind_s, ite_t, ite_n, ite_T, ite_F, i32_id, h5, e1, m_isDigit_ev s1 hb, c2, b2i_t, m_fail_ev g5, g2]
theorem m_isHere_wd (h : mG T n s p) (hp : rn qB T n p = p) (c1 : qL (bA T n p) = true) (c2 : pd T n p = false) {a : Nat} (ha : a ∈ wfs) : m_isHere a s = some (b2i (decide (wrd T n p = wo a)), s) := by
  rw [m_isHere_id h hp ha]
  simp [hereW, c1, c2]
theorem bnd_g {β α : Type} {e : β} {f : β → Option α} {x : Option α} (h : ∀ K, K = e → f K = x) : bnd e f = x := h e rfl
theorem m_isOwnHere_ev (h : mG T n s p) (hp : rn qB T n p = p) (c1 : qL (bA T n p) = true) (c2 : pd T n p = false) : m_isOwnHere s = some (b2i (decide (wrd T n p ∈ ownW)), s) := by
  unfold m_isOwnHere
  rw [m_isHere_wd h hp c1 c2 (a := 10) (by decide), bind_s]
  refine bnd_g fun K1 hK1 => ?_
  refine Eq.trans (b := K1 (b2i (decide (wrd T n p ∈ ([wo 10, wo 11, wo 12, wo 13, wo 14, wo 15] : List (List Int))))) s) ?_ ?_
  · by_cases d10 : wrd T n p = wo 10
    · rw [decide_eq_true (show wrd T n p ∈ ([wo 10, wo 11, wo 12, wo 13, wo 14, wo 15] : List (List Int)) by rw [d10]; decide), b2i_t]
      simp only [m_isHere_wd h hp c1 c2 (a := 11) (by decide), m_isHere_wd h hp c1 c2 (a := 12) (by decide), m_isHere_wd h hp c1 c2 (a := 13) (by decide), m_isHere_wd h hp c1 c2 (a := 14) (by decide), m_isHere_wd h hp c1 c2 (a := 15) (by decide), eq_true d10, eq_self, not_true_eq_false, not_false_eq_true, if_true, if_false, bind_s, bnd_r, b2i_d]
    by_cases d11 : wrd T n p = wo 11
    · rw [decide_eq_true (show wrd T n p ∈ ([wo 10, wo 11, wo 12, wo 13, wo 14, wo 15] : List (List Int)) by rw [d11]; decide), b2i_t]
      simp only [m_isHere_wd h hp c1 c2 (a := 11) (by decide), m_isHere_wd h hp c1 c2 (a := 12) (by decide), m_isHere_wd h hp c1 c2 (a := 13) (by decide), m_isHere_wd h hp c1 c2 (a := 14) (by decide), m_isHere_wd h hp c1 c2 (a := 15) (by decide), eq_true d11, eq_false d10, eq_self, not_true_eq_false, not_false_eq_true, if_true, if_false, bind_s, bnd_r, b2i_d]
    by_cases d12 : wrd T n p = wo 12
    · rw [decide_eq_true (show wrd T n p ∈ ([wo 10, wo 11, wo 12, wo 13, wo 14, wo 15] : List (List Int)) by rw [d12]; decide), b2i_t]
      simp only [m_isHere_wd h hp c1 c2 (a := 11) (by decide), m_isHere_wd h hp c1 c2 (a := 12) (by decide), m_isHere_wd h hp c1 c2 (a := 13) (by decide), m_isHere_wd h hp c1 c2 (a := 14) (by decide), m_isHere_wd h hp c1 c2 (a := 15) (by decide), eq_true d12, eq_false d10, eq_false d11, eq_self, not_true_eq_false, not_false_eq_true, if_true, if_false, bind_s, bnd_r, b2i_d]
    by_cases d13 : wrd T n p = wo 13
    · rw [decide_eq_true (show wrd T n p ∈ ([wo 10, wo 11, wo 12, wo 13, wo 14, wo 15] : List (List Int)) by rw [d13]; decide), b2i_t]
      simp only [m_isHere_wd h hp c1 c2 (a := 11) (by decide), m_isHere_wd h hp c1 c2 (a := 12) (by decide), m_isHere_wd h hp c1 c2 (a := 13) (by decide), m_isHere_wd h hp c1 c2 (a := 14) (by decide), m_isHere_wd h hp c1 c2 (a := 15) (by decide), eq_true d13, eq_false d10, eq_false d11, eq_false d12, eq_self, not_true_eq_false, not_false_eq_true, if_true, if_false, bind_s, bnd_r, b2i_d]
    by_cases d14 : wrd T n p = wo 14
    · rw [decide_eq_true (show wrd T n p ∈ ([wo 10, wo 11, wo 12, wo 13, wo 14, wo 15] : List (List Int)) by rw [d14]; decide), b2i_t]
      simp only [m_isHere_wd h hp c1 c2 (a := 11) (by decide), m_isHere_wd h hp c1 c2 (a := 12) (by decide), m_isHere_wd h hp c1 c2 (a := 13) (by decide), m_isHere_wd h hp c1 c2 (a := 14) (by decide), m_isHere_wd h hp c1 c2 (a := 15) (by decide), eq_true d14, eq_false d10, eq_false d11, eq_false d12, eq_false d13, eq_self, not_true_eq_false, not_false_eq_true, if_true, if_false, bind_s, bnd_r, b2i_d]
    by_cases d15 : wrd T n p = wo 15
    · rw [decide_eq_true (show wrd T n p ∈ ([wo 10, wo 11, wo 12, wo 13, wo 14, wo 15] : List (List Int)) by rw [d15]; decide), b2i_t]
      simp only [m_isHere_wd h hp c1 c2 (a := 11) (by decide), m_isHere_wd h hp c1 c2 (a := 12) (by decide), m_isHere_wd h hp c1 c2 (a := 13) (by decide), m_isHere_wd h hp c1 c2 (a := 14) (by decide), m_isHere_wd h hp c1 c2 (a := 15) (by decide), eq_true d15, eq_false d10, eq_false d11, eq_false d12, eq_false d13, eq_false d14, eq_self, not_true_eq_false, not_false_eq_true, if_true, if_false, bind_s, bnd_r, b2i_d]
    rw [decide_eq_false (show ¬ wrd T n p ∈ ([wo 10, wo 11, wo 12, wo 13, wo 14, wo 15] : List (List Int)) from ?_), b2i_f]
    · simp only [m_isHere_wd h hp c1 c2 (a := 11) (by decide), m_isHere_wd h hp c1 c2 (a := 12) (by decide), m_isHere_wd h hp c1 c2 (a := 13) (by decide), m_isHere_wd h hp c1 c2 (a := 14) (by decide), m_isHere_wd h hp c1 c2 (a := 15) (by decide), eq_false d10, eq_false d11, eq_false d12, eq_false d13, eq_false d14, eq_false d15, not_true_eq_false, not_false_eq_true, if_true, if_false, bind_s, bnd_r, b2i_d]
    · intro hm
      simp only [List.mem_cons, List.not_mem_nil, or_false] at hm
      rcases hm with q | q | q | q | q | q
      · exact d10 q
      · exact d11 q
      · exact d12 q
      · exact d13 q
      · exact d14 q
      · exact d15 q
  rw [hK1]
  show bnd _ _ = _
  refine bnd_g fun K2 hK2 => ?_
  refine Eq.trans (b := K2 (b2i (decide (wrd T n p ∈ ([wo 10, wo 11, wo 12, wo 13, wo 14, wo 15, wo 16, wo 17, wo 18, wo 19, wo 20, wo 21] : List (List Int))))) s) ?_ ?_
  · by_cases e1 : wrd T n p ∈ ([wo 10, wo 11, wo 12, wo 13, wo 14, wo 15] : List (List Int))
    · rw [decide_eq_true (show wrd T n p ∈ ([wo 10, wo 11, wo 12, wo 13, wo 14, wo 15, wo 16, wo 17, wo 18, wo 19, wo 20, wo 21] : List (List Int)) from List.mem_append_left [wo 16, wo 17, wo 18, wo 19, wo 20, wo 21] e1), b2i_t]
      simp only [eq_true e1, not_true_eq_false, not_false_eq_true, if_true, if_false, bind_s, bnd_r, b2i_d]
    by_cases d16 : wrd T n p = wo 16
    · rw [decide_eq_true (show wrd T n p ∈ ([wo 10, wo 11, wo 12, wo 13, wo 14, wo 15, wo 16, wo 17, wo 18, wo 19, wo 20, wo 21] : List (List Int)) by rw [d16]; decide), b2i_t]
      simp only [m_isHere_wd h hp c1 c2 (a := 16) (by decide), m_isHere_wd h hp c1 c2 (a := 17) (by decide), m_isHere_wd h hp c1 c2 (a := 18) (by decide), m_isHere_wd h hp c1 c2 (a := 19) (by decide), m_isHere_wd h hp c1 c2 (a := 20) (by decide), m_isHere_wd h hp c1 c2 (a := 21) (by decide), eq_true d16, eq_false e1, eq_self, not_true_eq_false, not_false_eq_true, if_true, if_false, bind_s, bnd_r, b2i_d]
    by_cases d17 : wrd T n p = wo 17
    · rw [decide_eq_true (show wrd T n p ∈ ([wo 10, wo 11, wo 12, wo 13, wo 14, wo 15, wo 16, wo 17, wo 18, wo 19, wo 20, wo 21] : List (List Int)) by rw [d17]; decide), b2i_t]
      simp only [m_isHere_wd h hp c1 c2 (a := 16) (by decide), m_isHere_wd h hp c1 c2 (a := 17) (by decide), m_isHere_wd h hp c1 c2 (a := 18) (by decide), m_isHere_wd h hp c1 c2 (a := 19) (by decide), m_isHere_wd h hp c1 c2 (a := 20) (by decide), m_isHere_wd h hp c1 c2 (a := 21) (by decide), eq_true d17, eq_false e1, eq_false d16, eq_self, not_true_eq_false, not_false_eq_true, if_true, if_false, bind_s, bnd_r, b2i_d]
    by_cases d18 : wrd T n p = wo 18
    · rw [decide_eq_true (show wrd T n p ∈ ([wo 10, wo 11, wo 12, wo 13, wo 14, wo 15, wo 16, wo 17, wo 18, wo 19, wo 20, wo 21] : List (List Int)) by rw [d18]; decide), b2i_t]
      simp only [m_isHere_wd h hp c1 c2 (a := 16) (by decide), m_isHere_wd h hp c1 c2 (a := 17) (by decide), m_isHere_wd h hp c1 c2 (a := 18) (by decide), m_isHere_wd h hp c1 c2 (a := 19) (by decide), m_isHere_wd h hp c1 c2 (a := 20) (by decide), m_isHere_wd h hp c1 c2 (a := 21) (by decide), eq_true d18, eq_false e1, eq_false d16, eq_false d17, eq_self, not_true_eq_false, not_false_eq_true, if_true, if_false, bind_s, bnd_r, b2i_d]
    by_cases d19 : wrd T n p = wo 19
    · rw [decide_eq_true (show wrd T n p ∈ ([wo 10, wo 11, wo 12, wo 13, wo 14, wo 15, wo 16, wo 17, wo 18, wo 19, wo 20, wo 21] : List (List Int)) by rw [d19]; decide), b2i_t]
      simp only [m_isHere_wd h hp c1 c2 (a := 16) (by decide), m_isHere_wd h hp c1 c2 (a := 17) (by decide), m_isHere_wd h hp c1 c2 (a := 18) (by decide), m_isHere_wd h hp c1 c2 (a := 19) (by decide), m_isHere_wd h hp c1 c2 (a := 20) (by decide), m_isHere_wd h hp c1 c2 (a := 21) (by decide), eq_true d19, eq_false e1, eq_false d16, eq_false d17, eq_false d18, eq_self, not_true_eq_false, not_false_eq_true, if_true, if_false, bind_s, bnd_r, b2i_d]
    by_cases d20 : wrd T n p = wo 20
    · rw [decide_eq_true (show wrd T n p ∈ ([wo 10, wo 11, wo 12, wo 13, wo 14, wo 15, wo 16, wo 17, wo 18, wo 19, wo 20, wo 21] : List (List Int)) by rw [d20]; decide), b2i_t]
      simp only [m_isHere_wd h hp c1 c2 (a := 16) (by decide), m_isHere_wd h hp c1 c2 (a := 17) (by decide), m_isHere_wd h hp c1 c2 (a := 18) (by decide), m_isHere_wd h hp c1 c2 (a := 19) (by decide), m_isHere_wd h hp c1 c2 (a := 20) (by decide), m_isHere_wd h hp c1 c2 (a := 21) (by decide), eq_true d20, eq_false e1, eq_false d16, eq_false d17, eq_false d18, eq_false d19, eq_self, not_true_eq_false, not_false_eq_true, if_true, if_false, bind_s, bnd_r, b2i_d]
    by_cases d21 : wrd T n p = wo 21
    · rw [decide_eq_true (show wrd T n p ∈ ([wo 10, wo 11, wo 12, wo 13, wo 14, wo 15, wo 16, wo 17, wo 18, wo 19, wo 20, wo 21] : List (List Int)) by rw [d21]; decide), b2i_t]
      simp only [m_isHere_wd h hp c1 c2 (a := 16) (by decide), m_isHere_wd h hp c1 c2 (a := 17) (by decide), m_isHere_wd h hp c1 c2 (a := 18) (by decide), m_isHere_wd h hp c1 c2 (a := 19) (by decide), m_isHere_wd h hp c1 c2 (a := 20) (by decide), m_isHere_wd h hp c1 c2 (a := 21) (by decide), eq_true d21, eq_false e1, eq_false d16, eq_false d17, eq_false d18, eq_false d19, eq_false d20, eq_self, not_true_eq_false, not_false_eq_true, if_true, if_false, bind_s, bnd_r, b2i_d]
    rw [decide_eq_false (show ¬ wrd T n p ∈ ([wo 10, wo 11, wo 12, wo 13, wo 14, wo 15, wo 16, wo 17, wo 18, wo 19, wo 20, wo 21] : List (List Int)) from ?_), b2i_f]
    · simp only [m_isHere_wd h hp c1 c2 (a := 16) (by decide), m_isHere_wd h hp c1 c2 (a := 17) (by decide), m_isHere_wd h hp c1 c2 (a := 18) (by decide), m_isHere_wd h hp c1 c2 (a := 19) (by decide), m_isHere_wd h hp c1 c2 (a := 20) (by decide), m_isHere_wd h hp c1 c2 (a := 21) (by decide), eq_false e1, eq_false d16, eq_false d17, eq_false d18, eq_false d19, eq_false d20, eq_false d21, not_true_eq_false, not_false_eq_true, if_true, if_false, bind_s, bnd_r, b2i_d]
    · intro hm
      rcases List.mem_append.mp (show wrd T n p ∈ ([wo 10, wo 11, wo 12, wo 13, wo 14, wo 15] : List (List Int)) ++ [wo 16, wo 17, wo 18, wo 19, wo 20, wo 21] from hm) with hm | hm
      · exact e1 hm
      simp only [List.mem_cons, List.not_mem_nil, or_false] at hm
      rcases hm with q | q | q | q | q | q
      · exact d16 q
      · exact d17 q
      · exact d18 q
      · exact d19 q
      · exact d20 q
      · exact d21 q
  rw [hK2]
  show bnd _ _ = _
  refine bnd_g fun K3 hK3 => ?_
  refine Eq.trans (b := K3 (b2i (decide (wrd T n p ∈ ([wo 10, wo 11, wo 12, wo 13, wo 14, wo 15, wo 16, wo 17, wo 18, wo 19, wo 20, wo 21, wo 22, wo 23, wo 24, wo 25, wo 26, wo 27] : List (List Int))))) s) ?_ ?_
  · by_cases e2 : wrd T n p ∈ ([wo 10, wo 11, wo 12, wo 13, wo 14, wo 15, wo 16, wo 17, wo 18, wo 19, wo 20, wo 21] : List (List Int))
    · rw [decide_eq_true (show wrd T n p ∈ ([wo 10, wo 11, wo 12, wo 13, wo 14, wo 15, wo 16, wo 17, wo 18, wo 19, wo 20, wo 21, wo 22, wo 23, wo 24, wo 25, wo 26, wo 27] : List (List Int)) from List.mem_append_left [wo 22, wo 23, wo 24, wo 25, wo 26, wo 27] e2), b2i_t]
      simp only [eq_true e2, not_true_eq_false, not_false_eq_true, if_true, if_false, bind_s, bnd_r, b2i_d]
    by_cases d22 : wrd T n p = wo 22
    · rw [decide_eq_true (show wrd T n p ∈ ([wo 10, wo 11, wo 12, wo 13, wo 14, wo 15, wo 16, wo 17, wo 18, wo 19, wo 20, wo 21, wo 22, wo 23, wo 24, wo 25, wo 26, wo 27] : List (List Int)) by rw [d22]; decide), b2i_t]
      simp only [m_isHere_wd h hp c1 c2 (a := 22) (by decide), m_isHere_wd h hp c1 c2 (a := 23) (by decide), m_isHere_wd h hp c1 c2 (a := 24) (by decide), m_isHere_wd h hp c1 c2 (a := 25) (by decide), m_isHere_wd h hp c1 c2 (a := 26) (by decide), m_isHere_wd h hp c1 c2 (a := 27) (by decide), eq_true d22, eq_false e2, eq_self, not_true_eq_false, not_false_eq_true, if_true, if_false, bind_s, bnd_r, b2i_d]
    by_cases d23 : wrd T n p = wo 23
    · rw [decide_eq_true (show wrd T n p ∈ ([wo 10, wo 11, wo 12, wo 13, wo 14, wo 15, wo 16, wo 17, wo 18, wo 19, wo 20, wo 21, wo 22, wo 23, wo 24, wo 25, wo 26, wo 27] : List (List Int)) by rw [d23]; decide), b2i_t]
      simp only [m_isHere_wd h hp c1 c2 (a := 22) (by decide), m_isHere_wd h hp c1 c2 (a := 23) (by decide), m_isHere_wd h hp c1 c2 (a := 24) (by decide), m_isHere_wd h hp c1 c2 (a := 25) (by decide), m_isHere_wd h hp c1 c2 (a := 26) (by decide), m_isHere_wd h hp c1 c2 (a := 27) (by decide), eq_true d23, eq_false e2, eq_false d22, eq_self, not_true_eq_false, not_false_eq_true, if_true, if_false, bind_s, bnd_r, b2i_d]
    by_cases d24 : wrd T n p = wo 24
    · rw [decide_eq_true (show wrd T n p ∈ ([wo 10, wo 11, wo 12, wo 13, wo 14, wo 15, wo 16, wo 17, wo 18, wo 19, wo 20, wo 21, wo 22, wo 23, wo 24, wo 25, wo 26, wo 27] : List (List Int)) by rw [d24]; decide), b2i_t]
      simp only [m_isHere_wd h hp c1 c2 (a := 22) (by decide), m_isHere_wd h hp c1 c2 (a := 23) (by decide), m_isHere_wd h hp c1 c2 (a := 24) (by decide), m_isHere_wd h hp c1 c2 (a := 25) (by decide), m_isHere_wd h hp c1 c2 (a := 26) (by decide), m_isHere_wd h hp c1 c2 (a := 27) (by decide), eq_true d24, eq_false e2, eq_false d22, eq_false d23, eq_self, not_true_eq_false, not_false_eq_true, if_true, if_false, bind_s, bnd_r, b2i_d]
    by_cases d25 : wrd T n p = wo 25
    · rw [decide_eq_true (show wrd T n p ∈ ([wo 10, wo 11, wo 12, wo 13, wo 14, wo 15, wo 16, wo 17, wo 18, wo 19, wo 20, wo 21, wo 22, wo 23, wo 24, wo 25, wo 26, wo 27] : List (List Int)) by rw [d25]; decide), b2i_t]
      simp only [m_isHere_wd h hp c1 c2 (a := 22) (by decide), m_isHere_wd h hp c1 c2 (a := 23) (by decide), m_isHere_wd h hp c1 c2 (a := 24) (by decide), m_isHere_wd h hp c1 c2 (a := 25) (by decide), m_isHere_wd h hp c1 c2 (a := 26) (by decide), m_isHere_wd h hp c1 c2 (a := 27) (by decide), eq_true d25, eq_false e2, eq_false d22, eq_false d23, eq_false d24, eq_self, not_true_eq_false, not_false_eq_true, if_true, if_false, bind_s, bnd_r, b2i_d]
    by_cases d26 : wrd T n p = wo 26
    · rw [decide_eq_true (show wrd T n p ∈ ([wo 10, wo 11, wo 12, wo 13, wo 14, wo 15, wo 16, wo 17, wo 18, wo 19, wo 20, wo 21, wo 22, wo 23, wo 24, wo 25, wo 26, wo 27] : List (List Int)) by rw [d26]; decide), b2i_t]
      simp only [m_isHere_wd h hp c1 c2 (a := 22) (by decide), m_isHere_wd h hp c1 c2 (a := 23) (by decide), m_isHere_wd h hp c1 c2 (a := 24) (by decide), m_isHere_wd h hp c1 c2 (a := 25) (by decide), m_isHere_wd h hp c1 c2 (a := 26) (by decide), m_isHere_wd h hp c1 c2 (a := 27) (by decide), eq_true d26, eq_false e2, eq_false d22, eq_false d23, eq_false d24, eq_false d25, eq_self, not_true_eq_false, not_false_eq_true, if_true, if_false, bind_s, bnd_r, b2i_d]
    by_cases d27 : wrd T n p = wo 27
    · rw [decide_eq_true (show wrd T n p ∈ ([wo 10, wo 11, wo 12, wo 13, wo 14, wo 15, wo 16, wo 17, wo 18, wo 19, wo 20, wo 21, wo 22, wo 23, wo 24, wo 25, wo 26, wo 27] : List (List Int)) by rw [d27]; decide), b2i_t]
      simp only [m_isHere_wd h hp c1 c2 (a := 22) (by decide), m_isHere_wd h hp c1 c2 (a := 23) (by decide), m_isHere_wd h hp c1 c2 (a := 24) (by decide), m_isHere_wd h hp c1 c2 (a := 25) (by decide), m_isHere_wd h hp c1 c2 (a := 26) (by decide), m_isHere_wd h hp c1 c2 (a := 27) (by decide), eq_true d27, eq_false e2, eq_false d22, eq_false d23, eq_false d24, eq_false d25, eq_false d26, eq_self, not_true_eq_false, not_false_eq_true, if_true, if_false, bind_s, bnd_r, b2i_d]
    rw [decide_eq_false (show ¬ wrd T n p ∈ ([wo 10, wo 11, wo 12, wo 13, wo 14, wo 15, wo 16, wo 17, wo 18, wo 19, wo 20, wo 21, wo 22, wo 23, wo 24, wo 25, wo 26, wo 27] : List (List Int)) from ?_), b2i_f]
    · simp only [m_isHere_wd h hp c1 c2 (a := 22) (by decide), m_isHere_wd h hp c1 c2 (a := 23) (by decide), m_isHere_wd h hp c1 c2 (a := 24) (by decide), m_isHere_wd h hp c1 c2 (a := 25) (by decide), m_isHere_wd h hp c1 c2 (a := 26) (by decide), m_isHere_wd h hp c1 c2 (a := 27) (by decide), eq_false e2, eq_false d22, eq_false d23, eq_false d24, eq_false d25, eq_false d26, eq_false d27, not_true_eq_false, not_false_eq_true, if_true, if_false, bind_s, bnd_r, b2i_d]
    · intro hm
      rcases List.mem_append.mp (show wrd T n p ∈ ([wo 10, wo 11, wo 12, wo 13, wo 14, wo 15, wo 16, wo 17, wo 18, wo 19, wo 20, wo 21] : List (List Int)) ++ [wo 22, wo 23, wo 24, wo 25, wo 26, wo 27] from hm) with hm | hm
      · exact e2 hm
      simp only [List.mem_cons, List.not_mem_nil, or_false] at hm
      rcases hm with q | q | q | q | q | q
      · exact d22 q
      · exact d23 q
      · exact d24 q
      · exact d25 q
      · exact d26 q
      · exact d27 q
  rw [hK3]
  show bnd _ _ = _
  refine bnd_g fun K4 hK4 => ?_
  refine Eq.trans (b := K4 (b2i (decide (wrd T n p ∈ ([wo 10, wo 11, wo 12, wo 13, wo 14, wo 15, wo 16, wo 17, wo 18, wo 19, wo 20, wo 21, wo 22, wo 23, wo 24, wo 25, wo 26, wo 27, wo 28, wo 29, wo 30, wo 31, wo 32, wo 33] : List (List Int))))) s) ?_ ?_
  · by_cases e3 : wrd T n p ∈ ([wo 10, wo 11, wo 12, wo 13, wo 14, wo 15, wo 16, wo 17, wo 18, wo 19, wo 20, wo 21, wo 22, wo 23, wo 24, wo 25, wo 26, wo 27] : List (List Int))
    · rw [decide_eq_true (show wrd T n p ∈ ([wo 10, wo 11, wo 12, wo 13, wo 14, wo 15, wo 16, wo 17, wo 18, wo 19, wo 20, wo 21, wo 22, wo 23, wo 24, wo 25, wo 26, wo 27, wo 28, wo 29, wo 30, wo 31, wo 32, wo 33] : List (List Int)) from List.mem_append_left [wo 28, wo 29, wo 30, wo 31, wo 32, wo 33] e3), b2i_t]
      simp only [eq_true e3, not_true_eq_false, not_false_eq_true, if_true, if_false, bind_s, bnd_r, b2i_d]
    by_cases d28 : wrd T n p = wo 28
    · rw [decide_eq_true (show wrd T n p ∈ ([wo 10, wo 11, wo 12, wo 13, wo 14, wo 15, wo 16, wo 17, wo 18, wo 19, wo 20, wo 21, wo 22, wo 23, wo 24, wo 25, wo 26, wo 27, wo 28, wo 29, wo 30, wo 31, wo 32, wo 33] : List (List Int)) by rw [d28]; decide), b2i_t]
      simp only [m_isHere_wd h hp c1 c2 (a := 28) (by decide), m_isHere_wd h hp c1 c2 (a := 29) (by decide), m_isHere_wd h hp c1 c2 (a := 30) (by decide), m_isHere_wd h hp c1 c2 (a := 31) (by decide), m_isHere_wd h hp c1 c2 (a := 32) (by decide), m_isHere_wd h hp c1 c2 (a := 33) (by decide), eq_true d28, eq_false e3, eq_self, not_true_eq_false, not_false_eq_true, if_true, if_false, bind_s, bnd_r, b2i_d]
    by_cases d29 : wrd T n p = wo 29
    · rw [decide_eq_true (show wrd T n p ∈ ([wo 10, wo 11, wo 12, wo 13, wo 14, wo 15, wo 16, wo 17, wo 18, wo 19, wo 20, wo 21, wo 22, wo 23, wo 24, wo 25, wo 26, wo 27, wo 28, wo 29, wo 30, wo 31, wo 32, wo 33] : List (List Int)) by rw [d29]; decide), b2i_t]
      simp only [m_isHere_wd h hp c1 c2 (a := 28) (by decide), m_isHere_wd h hp c1 c2 (a := 29) (by decide), m_isHere_wd h hp c1 c2 (a := 30) (by decide), m_isHere_wd h hp c1 c2 (a := 31) (by decide), m_isHere_wd h hp c1 c2 (a := 32) (by decide), m_isHere_wd h hp c1 c2 (a := 33) (by decide), eq_true d29, eq_false e3, eq_false d28, eq_self, not_true_eq_false, not_false_eq_true, if_true, if_false, bind_s, bnd_r, b2i_d]
    by_cases d30 : wrd T n p = wo 30
    · rw [decide_eq_true (show wrd T n p ∈ ([wo 10, wo 11, wo 12, wo 13, wo 14, wo 15, wo 16, wo 17, wo 18, wo 19, wo 20, wo 21, wo 22, wo 23, wo 24, wo 25, wo 26, wo 27, wo 28, wo 29, wo 30, wo 31, wo 32, wo 33] : List (List Int)) by rw [d30]; decide), b2i_t]
      simp only [m_isHere_wd h hp c1 c2 (a := 28) (by decide), m_isHere_wd h hp c1 c2 (a := 29) (by decide), m_isHere_wd h hp c1 c2 (a := 30) (by decide), m_isHere_wd h hp c1 c2 (a := 31) (by decide), m_isHere_wd h hp c1 c2 (a := 32) (by decide), m_isHere_wd h hp c1 c2 (a := 33) (by decide), eq_true d30, eq_false e3, eq_false d28, eq_false d29, eq_self, not_true_eq_false, not_false_eq_true, if_true, if_false, bind_s, bnd_r, b2i_d]
    by_cases d31 : wrd T n p = wo 31
    · rw [decide_eq_true (show wrd T n p ∈ ([wo 10, wo 11, wo 12, wo 13, wo 14, wo 15, wo 16, wo 17, wo 18, wo 19, wo 20, wo 21, wo 22, wo 23, wo 24, wo 25, wo 26, wo 27, wo 28, wo 29, wo 30, wo 31, wo 32, wo 33] : List (List Int)) by rw [d31]; decide), b2i_t]
      simp only [m_isHere_wd h hp c1 c2 (a := 28) (by decide), m_isHere_wd h hp c1 c2 (a := 29) (by decide), m_isHere_wd h hp c1 c2 (a := 30) (by decide), m_isHere_wd h hp c1 c2 (a := 31) (by decide), m_isHere_wd h hp c1 c2 (a := 32) (by decide), m_isHere_wd h hp c1 c2 (a := 33) (by decide), eq_true d31, eq_false e3, eq_false d28, eq_false d29, eq_false d30, eq_self, not_true_eq_false, not_false_eq_true, if_true, if_false, bind_s, bnd_r, b2i_d]
    by_cases d32 : wrd T n p = wo 32
    · rw [decide_eq_true (show wrd T n p ∈ ([wo 10, wo 11, wo 12, wo 13, wo 14, wo 15, wo 16, wo 17, wo 18, wo 19, wo 20, wo 21, wo 22, wo 23, wo 24, wo 25, wo 26, wo 27, wo 28, wo 29, wo 30, wo 31, wo 32, wo 33] : List (List Int)) by rw [d32]; decide), b2i_t]
      simp only [m_isHere_wd h hp c1 c2 (a := 28) (by decide), m_isHere_wd h hp c1 c2 (a := 29) (by decide), m_isHere_wd h hp c1 c2 (a := 30) (by decide), m_isHere_wd h hp c1 c2 (a := 31) (by decide), m_isHere_wd h hp c1 c2 (a := 32) (by decide), m_isHere_wd h hp c1 c2 (a := 33) (by decide), eq_true d32, eq_false e3, eq_false d28, eq_false d29, eq_false d30, eq_false d31, eq_self, not_true_eq_false, not_false_eq_true, if_true, if_false, bind_s, bnd_r, b2i_d]
    by_cases d33 : wrd T n p = wo 33
    · rw [decide_eq_true (show wrd T n p ∈ ([wo 10, wo 11, wo 12, wo 13, wo 14, wo 15, wo 16, wo 17, wo 18, wo 19, wo 20, wo 21, wo 22, wo 23, wo 24, wo 25, wo 26, wo 27, wo 28, wo 29, wo 30, wo 31, wo 32, wo 33] : List (List Int)) by rw [d33]; decide), b2i_t]
      simp only [m_isHere_wd h hp c1 c2 (a := 28) (by decide), m_isHere_wd h hp c1 c2 (a := 29) (by decide), m_isHere_wd h hp c1 c2 (a := 30) (by decide), m_isHere_wd h hp c1 c2 (a := 31) (by decide), m_isHere_wd h hp c1 c2 (a := 32) (by decide), m_isHere_wd h hp c1 c2 (a := 33) (by decide), eq_true d33, eq_false e3, eq_false d28, eq_false d29, eq_false d30, eq_false d31, eq_false d32, eq_self, not_true_eq_false, not_false_eq_true, if_true, if_false, bind_s, bnd_r, b2i_d]
    rw [decide_eq_false (show ¬ wrd T n p ∈ ([wo 10, wo 11, wo 12, wo 13, wo 14, wo 15, wo 16, wo 17, wo 18, wo 19, wo 20, wo 21, wo 22, wo 23, wo 24, wo 25, wo 26, wo 27, wo 28, wo 29, wo 30, wo 31, wo 32, wo 33] : List (List Int)) from ?_), b2i_f]
    · simp only [m_isHere_wd h hp c1 c2 (a := 28) (by decide), m_isHere_wd h hp c1 c2 (a := 29) (by decide), m_isHere_wd h hp c1 c2 (a := 30) (by decide), m_isHere_wd h hp c1 c2 (a := 31) (by decide), m_isHere_wd h hp c1 c2 (a := 32) (by decide), m_isHere_wd h hp c1 c2 (a := 33) (by decide), eq_false e3, eq_false d28, eq_false d29, eq_false d30, eq_false d31, eq_false d32, eq_false d33, not_true_eq_false, not_false_eq_true, if_true, if_false, bind_s, bnd_r, b2i_d]
    · intro hm
      rcases List.mem_append.mp (show wrd T n p ∈ ([wo 10, wo 11, wo 12, wo 13, wo 14, wo 15, wo 16, wo 17, wo 18, wo 19, wo 20, wo 21, wo 22, wo 23, wo 24, wo 25, wo 26, wo 27] : List (List Int)) ++ [wo 28, wo 29, wo 30, wo 31, wo 32, wo 33] from hm) with hm | hm
      · exact e3 hm
      simp only [List.mem_cons, List.not_mem_nil, or_false] at hm
      rcases hm with q | q | q | q | q | q
      · exact d28 q
      · exact d29 q
      · exact d30 q
      · exact d31 q
      · exact d32 q
      · exact d33 q
  rw [hK4]
  show gd (bz _) _ = _
  rw [show ([wo 10, wo 11, wo 12, wo 13, wo 14, wo 15, wo 16, wo 17, wo 18, wo 19, wo 20, wo 21, wo 22, wo 23, wo 24, wo 25, wo 26, wo 27, wo 28, wo 29, wo 30, wo 31, wo 32, wo 33] : List (List Int)) = ownW from rfl]
  rw [gd_t]
  cases decide (wrd T n p ∈ ownW) <;> decide
theorem m_nam_go (ht : tpOk T n) (k1 : Int → MS → Option (Int × MS)) (k2 : MS → Option (Int × MS)) {q e : Int} (hq : 0 ≤ q) (he : e ≤ rn qL T n q) (hen : e ≤ n) (he6 : e ≤ q + 6) : ∀ (d fuel : Nat) (x : Int) (s : MS), s 0 = T → s 3 0 = n → s 2 0 = x → s 34 0 = q → q ≤ x → x + d = e → d ≤ fuel → m_name_L58 k1 k2 fuel (nmV (wdl T q x)) s = m_name_L58 k1 k2 (fuel - d) (nmV (wdl T q e)) (up s 2 0 e) := by
  have hn := ht.1
  intro d
  induction d with
  | zero =>
    intro fuel x s h0 h3 h2 h34 hx hd hf
    have : x = e := by omega
    subst this
    rw [up_self h2]
    rfl
  | succ d ih =>
    intro fuel x s h0 h3 h2 h34 hx hd hf
    obtain ⟨g, rfl⟩ : ∃ g, fuel = g + 1 := ⟨fuel - 1, by omega⟩
    have hb := ht.2 x (by omega) (by omega)
    have hdg : qL (T x) = true := by rw [← bA_in (T := T) (n := n) (p := x) (by omega) (by omega)]; exact rn_in (q := qL) (p := q) (by omega) (by omega)
    have e1 : m_name_L58 k1 k2 (g + 1) (nmV (wdl T q x)) s = m_name_L58 k1 k2 g (nmV (wdl T q (x + 1))) (up s 2 0 (x + 1)) := by
      rw [m_name_L58, wdl_snoc hx, nmV_snoc]
      simp (disch := omega) only [gd_t, gd_T, gd_ok, not_false_eq_true, eq_self, bnd_r, bind_s, ite_t, ite_n, ite_T, ite_F, i32_id, h3, h2, h0, h34, m_isLetter_ev s (c := T x) (by omega), hdg, b2i_t]
    have f1 := ih g (x + 1) (up s 2 0 (x + 1)) (by rw [up_row (by decide)]; exact h0) (by rw [up_row (by decide)]; exact h3) (by rw [up_s]) (by rw [up_row (by decide)]; exact h34) (by omega) (by omega) (by omega)
    rw [up_up] at f1
    rw [e1, f1, show g + 1 - (d + 1) = g - d by omega]
theorem m_name_ev (h : mG T n s p) :
    ((tkM T n p).1 = 0 → ∃ s', m_name s = some (nmV (wdl T (tkM T n p).2.1 (tkM T n p).2.2), s') ∧ only [2, 4, 34] s s' ∧ mG T n s' (tkM T n p).2.2 ∧ s' 34 0 = (tkM T n p).2.1) ∧ ((tkM T n p).1 ≠ 0 → ∃ s', m_name s = some (0, s') ∧ mB (tkM T n p).1 (tkM T n p).2.1 s s') := by
  obtain ⟨s1, e1, e2, e3⟩ := m_look_ev h
  obtain ⟨ht, g0, g3, g2, g5, gp, g4, gi, gw⟩ := id e3
  have h5 : s 5 0 = 0 := h.2.2.2.2.1
  have hn := ht.1
  have hb := bA_b ht (rn qB T n p)
  have hskq := sk_sk T n p
  unfold tkM
  generalize hq : rn qB T n p = q at *
  by_cases c1 : qL (bA T n q) = true ∧ pd T n q = false
  · have hne : s1 4 0 ≠ q := fun e => by rw [gi.mp e] at c1; cases c1.2
    have hr := rn_hi (q := qL) (T := T) qL_1 gp.2
    have hr2 := rn_lt (q := qL) (T := T) (n := n) qL_1 c1.1
    have hFU := FU_ge
    have hown := m_isOwnHere_ev e3 hskq c1.1 c1.2
    rw [if_pos c1]
    by_cases c0 : wrd T n q ∈ ownW
    · simp only [if_pos c0]
      refine ⟨fun h => by omega, fun _ => ⟨up (up s1 5 0 1) 6 0 q, ?_, mB.up e2 (by decide)⟩⟩
      rw [decide_eq_true c0, b2i_t] at hown
      unfold m_name
      simp (disch := omega) only [gd_t, gd_T, gd_ok, not_false_eq_true, eq_self, bnd_r, bind_s, ite_t, ite_n, ite_T, ite_F, i32_id, h5, e1, m_isLetter_ev s1 hb, c1.1, b2i_t, g2, hown, m_fail_ev g5]
    · simp only [if_neg c0]
      rw [decide_eq_false c0, b2i_f] at hown
      have u0 : up s1 34 0 q 0 = T := by rw [← g0]; funext i; rw [up_k _ _ _ _ (by decide)]
      have u3 : up s1 34 0 q 3 0 = n := by rw [up_k _ _ _ _ (by decide)]; exact g3
      have u2 : up s1 34 0 q 2 0 = q := by rw [up_k _ _ _ _ (by decide)]; exact g2
      have hw0 : nmV (wdl T q q) = 0 := by rw [wdl_nil]; rfl
      by_cases c2 : rn qL T n q - q ≤ 6
      · simp only [if_pos c2]
        refine ⟨fun _ => ?_, fun h => absurd rfl h⟩
        have hgo := fun k1 k2 => m_nam_go ht k1 k2 gp.1 (Int.le_refl _) hr (by omega) (rn qL T n q - q).toNat FU q (up s1 34 0 q) u0 u3 u2 (by rw [up_s]) (Int.le_refl _) (by omega) (by omega)
        obtain ⟨s2, hs2⟩ : ∃ s2, up (up s1 34 0 q) 2 0 (rn qL T n q) = s2 := ⟨_, rfl⟩
        rw [hs2] at hgo
        have f2 : only [2] (up s1 34 0 q) s2 := by rw [← hs2]; exact only.up (by decide)
        have f3 : s2 2 0 = rn qL T n q := by rw [← hs2, up_s]
        obtain ⟨f, hf⟩ : ∃ f, FU - (rn qL T n q - q).toNat = f + 1 := ⟨FU - (rn qL T n q - q).toNat - 1, by omega⟩
        have e0 : s2 0 = T := by rw [f2 0 (by decide), u0]
        have e33 : s2 3 0 = n := by rw [f2 3 (by decide), u3]
        have hdg : qL (bA T n (rn qL T n q)) = false := rn_end qL_1 q
        have ho : only [2, 4, 34] s1 (up s2 4 0 (rn qL T n q)) := ((only.up (by decide)).tr (f2.mono (by decide))).tr (only.up (by decide))
        refine ⟨up s2 4 0 (rn qL T n q), ?_, (e2.mono (by decide)).tr ho, e3.token qL_qL qL_1 hr2 ho (by decide) (by rw [up_k _ _ _ _ (by decide)]; exact f3) (by rw [up_s]), by rw [up_k _ _ _ _ (by decide), f2 34 (by decide), up_s]⟩
        rw [hw0] at hgo
        unfold m_name
        simp (disch := omega) only [gd_t, gd_T, gd_ok, not_false_eq_true, eq_self, bnd_r, bind_s, ite_t, ite_n, ite_T, ite_F, i32_id, h5, e1, m_isLetter_ev s1 hb, c1.1, b2i_t, g2, hown, hgo]
        rw [hf, m_name_L58]
        by_cases c : rn qL T n q < n
        · rw [bA_in (by omega) c] at hdg
          have hb2 := ht.2 (rn qL T n q) (by omega) (by omega)
          simp (disch := omega) only [gd_t, gd_T, gd_ok, not_false_eq_true, eq_self, bnd_r, bind_s, ite_t, ite_n, ite_T, ite_F, i32_id, e33, f3, e0, m_isLetter_ev s2 (c := T (rn qL T n q)) (by omega), hdg, b2i_f]
        · simp (disch := omega) only [gd_t, gd_T, gd_ok, not_false_eq_true, eq_self, bnd_r, bind_s, ite_t, ite_n, ite_T, ite_F, i32_id, e33, f3]
      · simp only [if_neg c2]
        refine ⟨fun h => by omega, fun _ => ?_⟩
        have hgo := fun k1 k2 => m_nam_go ht k1 k2 gp.1 (e := q + 6) (by omega) (by omega) (by omega) 6 FU q (up s1 34 0 q) u0 u3 u2 (by rw [up_s]) (Int.le_refl _) (by omega) (by omega)
        obtain ⟨s2, hs2⟩ : ∃ s2, up (up s1 34 0 q) 2 0 (q + 6) = s2 := ⟨_, rfl⟩
        rw [hs2] at hgo
        have f2 : only [2] (up s1 34 0 q) s2 := by rw [← hs2]; exact only.up (by decide)
        have f3 : s2 2 0 = q + 6 := by rw [← hs2, up_s]
        obtain ⟨f, hf⟩ : ∃ f, FU - 6 = f + 1 := ⟨FU - 6 - 1, by omega⟩
        have e0 : s2 0 = T := by rw [f2 0 (by decide), u0]
        have e33 : s2 3 0 = n := by rw [f2 3 (by decide), u3]
        have e34 : s2 34 0 = q := by rw [f2 34 (by decide), up_s]
        have e5 : s2 5 0 = 0 := by rw [f2 5 (by decide), up_k _ _ _ _ (by decide)]; exact g5
        have hb2 := ht.2 (q + 6) (by omega) (by omega)
        have hdg : qL (T (q + 6)) = true := by rw [← bA_in (T := T) (n := n) (p := q + 6) (by omega) (by omega)]; exact rn_in (q := qL) (p := q) (by omega) (by omega)
        have ho : only [2, 4, 34] s s2 := (e2.mono (by decide)).tr ((only.up (by decide)).tr (f2.mono (by decide)))
        refine ⟨up (up s2 5 0 1) 6 0 (q + 6), ?_, mB.up ho (by decide)⟩
        rw [hw0] at hgo
        unfold m_name
        simp (disch := omega) only [gd_t, gd_T, gd_ok, not_false_eq_true, eq_self, bnd_r, bind_s, ite_t, ite_n, ite_T, ite_F, i32_id, h5, e1, m_isLetter_ev s1 hb, c1.1, b2i_t, g2, hown, hgo]
        rw [hf, m_name_L58]
        simp (disch := omega) only [gd_t, gd_T, gd_ok, not_false_eq_true, eq_self, bnd_r, bind_s, ite_t, ite_n, ite_T, ite_F, i32_id, e33, f3, e0, e34, m_isLetter_ev s2 (c := T (q + 6)) (by omega), hdg, b2i_t, m_fail_ev e5, show q + 6 - q = 6 by omega]
  · simp only [if_neg c1]
    refine ⟨fun h => by omega, fun _ => ⟨up (up s1 5 0 1) 6 0 q, ?_, mB.up e2 (by decide)⟩⟩
    unfold m_name
    cases c2 : qL (bA T n q) with
    | false =>
      simp (disch := omega) only [gd_t, gd_T, gd_ok, not_false_eq_true, eq_self, bnd_r, bind_s, ite_t, ite_n, ite_T, ite_F, i32_id, h5, e1, m_isLetter_ev s1 hb, c2, b2i_f, m_fail_ev g5, g2]
    | true =>
      have c3 : pd T n q = true := by
        cases hh : pd T n q with
        | true => rfl
        | false => exact absurd ⟨c2, hh⟩ c1
      have := gi.mpr c3
      simp (disch := omega) only [gd_t, gd_T, gd_ok, not_false_eq_true, eq_self, bnd_r, bind_s, ite_t, ite_n, ite_T, ite_F, i32_id, h5, e1, m_isLetter_ev s1 hb, c2, b2i_t, m_fail_ev g5, g2]
end
