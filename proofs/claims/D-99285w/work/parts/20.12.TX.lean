set_option maxRecDepth 100000
/-! LAYER 2: the system's words -/
def fre (c : Int) : Prop := c ≤ -2 ∨ (1 ≤ c ∧ c ≤ 5) ∨ 1514 ≤ c
theorem dyn_fre {c : Int} (h : dyn c) : fre c := by unfold dyn at h; unfold fre; omega
theorem stc_fre {c : Int} (h : fre c) : (stc c).1 = 0 := by
  unfold stc
  rcases h with h | h | h
  · rw [if_neg (by omega), if_neg (by omega), if_neg (by omega), if_neg (by omega), if_neg (by omega)]
  · rcases (show c = 1 ∨ c = 2 ∨ c = 3 ∨ c = 4 ∨ c = 5 by omega) with rfl | rfl | rfl | rfl | rfl <;> rfl
  · rw [if_neg (by omega), if_neg (by omega), if_neg (by omega), if_neg (by omega), if_neg (by omega)]
theorem fre_ne {c : Int} (h : fre c) : ¬ c = -1 := by rcases h with h | h | h <;> omega
theorem fre_nf {c : Int} (h : fre c) : (c = -1) = False := eq_false (fre_ne h)
theorem tg_fre {τ : XS} {c : Int} (h : fre c) : tg true τ c = (τ c (-1)).toNat := by
  unfold tg
  rw [if_neg (by rw [stc_fre h]; simp), if_neg (by rcases h with h | h | h <;> omega)]
theorem tgf {τ : XS} {c : Int} {t : Nat} (h : fre c) (h2 : τ c (-1) = t) : tg true τ c = t := by rw [tg_fre h, h2]; simp
theorem ln_fre {τ : XS} {c : Int} (h : fre c) : ln true τ c = τ c (-2) := by
  unfold ln
  rw [if_neg (by rw [stc_fre h]; simp)]
theorem new_fre {c : Int} (h : 1514 ≤ c) : fre c := Or.inr (Or.inr h)
/-- cells are made one behind the other -/
def al (τ : XS) : Prop := 1514 ≤ τ (-1) 0 ∧ 0 ≤ τ (-1) 1 ∧ ∀ c, τ (-1) 0 ≤ c → τ c (-1) = 0
/-- what reading keeps: all that was, but the reader's own numbers and the fault -/
def ext (τ0 τ : XS) : Prop := (τ0 (-1) 0 ≤ τ (-1) 0 ∧ τ0 (-1) 1 ≤ τ (-1) 1) ∧ (∀ i, 2 ≤ i → τ (-1) i = τ0 (-1) i) ∧ (∀ c, c ≠ -1 → c ≠ 7 → c ≠ 8 → c < τ0 (-1) 0 → τ c = τ0 c) ∧ ∀ i, i ≠ 2 → i ≠ 3 → i ≠ 4 → τ 7 i = τ0 7 i
theorem ext.rf {τ : XS} : ext τ τ := ⟨⟨Int.le_refl _, Int.le_refl _⟩, fun _ _ => rfl, fun _ _ _ _ _ => rfl, fun _ _ _ _ => rfl⟩
theorem ext.tr {τ0 τ1 τ2 : XS} (h : ext τ0 τ1) (h2 : ext τ1 τ2) : ext τ0 τ2 := by
  obtain ⟨⟨a1, a2⟩, a3, a4, a5⟩ := h
  obtain ⟨⟨b1, b2⟩, b3, b4, b5⟩ := h2
  exact ⟨⟨by omega, by omega⟩, fun i hi => (b3 i hi).trans (a3 i hi), fun c h1 h2 h3 h4 => (b4 c h1 h2 h3 (by omega)).trans (a4 c h1 h2 h3 h4), fun i h1 h2 h3 => (b5 i h1 h2 h3).trans (a5 i h1 h2 h3)⟩
theorem ux_self {τ : XS} {c i x : Int} (h : τ c i = x) : ux τ c i x = τ := by
  funext a b
  unfold ux
  split
  · rename_i q; rw [q.1, q.2, h]
  · rfl
theorem ux_ux (τ : XS) (c i x y : Int) : ux (ux τ c i x) c i y = ux τ c i y := by
  funext a b
  unfold ux
  split <;> rfl
theorem ux_cell {τ : XS} {c c' i x : Int} (h : c' ≠ c) : ux τ c i x c' = τ c' := by funext j; exact ux_c τ i x j h
theorem ext.u7 {τ0 τ : XS} (h : ext τ0 τ) {i x : Int} (hi : i = 2 ∨ i = 3 ∨ i = 4) : ext τ0 (ux τ 7 i x) := by
  obtain ⟨⟨a1, a2⟩, a3, a4, a5⟩ := h
  refine ⟨by rw [ux_cell (by decide)]; exact ⟨a1, a2⟩, fun j hj => by rw [ux_cell (by decide)]; exact a3 j hj, fun c h1 h2 h3 h4 => by rw [ux_cell h2]; exact a4 c h1 h2 h3 h4, fun j h1 h2 h3 => by rw [ux_i _ _ _ _ (by omega)]; exact a5 j h1 h2 h3⟩
theorem ext.u8 {τ0 τ : XS} (h : ext τ0 τ) {i x : Int} : ext τ0 (ux τ 8 i x) := by
  obtain ⟨⟨a1, a2⟩, a3, a4, a5⟩ := h
  refine ⟨by rw [ux_cell (by decide)]; exact ⟨a1, a2⟩, fun j hj => by rw [ux_cell (by decide)]; exact a3 j hj, fun c h1 h2 h3 h4 => by rw [ux_cell h3]; exact a4 c h1 h2 h3 h4, fun j h1 h2 h3 => by rw [ux_cell (by decide)]; exact a5 j h1 h2 h3⟩
theorem ext.un {τ0 τ : XS} (h : ext τ0 τ) {c i x : Int} (hc : τ0 (-1) 0 ≤ c) (h0 : 1514 ≤ c) : ext τ0 (ux τ c i x) := by
  obtain ⟨⟨a1, a2⟩, a3, a4, a5⟩ := h
  refine ⟨by rw [ux_cell (by omega)]; exact ⟨a1, a2⟩, fun j hj => by rw [ux_cell (by omega)]; exact a3 j hj, fun d h1 h2 h3 h4 => by rw [ux_cell (by omega)]; exact a4 d h1 h2 h3 h4, fun j h1 h2 h3 => by rw [ux_cell (by omega)]; exact a5 j h1 h2 h3⟩
theorem al.u {τ : XS} (h : al τ) {c i x : Int} (hc : c ≠ -1) (hi : i ≠ -1) : al (ux τ c i x) := by
  obtain ⟨a1, a2, a3⟩ := h
  refine ⟨by rw [ux_cell (by omega)]; exact a1, by rw [ux_cell (by omega)]; exact a2, fun d hd => ?_⟩
  rw [ux_cell (by omega)] at hd
  rw [ux_i _ _ _ _ (by omega)]
  exact a3 d hd
section Nwx
variable {τ τ0 : XS} {t l sl : Int} {d : Int → Int}
theorem nwx_t : nwx τ t l sl d (τ (-1) 0) (-1) = t := by simp [nwx]
theorem nwx_l : nwx τ t l sl d (τ (-1) 0) (-2) = l := by simp [nwx]
theorem nwx_d {i : Int} (h : 0 ≤ i) : nwx τ t l sl d (τ (-1) 0) i = d i := by
  unfold nwx
  rw [if_pos rfl, if_neg (by omega), if_neg (by omega)]
theorem nwx_c {c : Int} (h : c ≠ τ (-1) 0) (h2 : c ≠ -1) : nwx τ t l sl d c = τ c := by
  funext i
  unfold nwx
  rw [if_neg h, if_neg (by omega), if_neg (by omega)]
theorem nwx_N (h : al τ) : nwx τ t l sl d (-1) 0 = τ (-1) 0 + 1 := by
  unfold nwx
  have := h.1
  rw [if_neg (by omega), if_pos ⟨rfl, rfl⟩]
theorem nwx_Sl (h : al τ) : nwx τ t l sl d (-1) 1 = τ (-1) 1 + sl := by
  unfold nwx
  have := h.1
  rw [if_neg (by omega), if_neg (by omega), if_pos ⟨rfl, rfl⟩]
theorem nwx_K (h : al τ) {i : Int} (hi : 2 ≤ i) : nwx τ t l sl d (-1) i = τ (-1) i := by
  unfold nwx
  have := h.1
  rw [if_neg (by omega), if_neg (by omega), if_neg (by omega)]
theorem al.nw (h : al τ) (hs : 0 ≤ sl) : al (nwx τ t l sl d) := by
  obtain ⟨a1, a2, a3⟩ := id h
  refine ⟨by rw [nwx_N h]; omega, by rw [nwx_Sl h]; omega, fun c hc => ?_⟩
  rw [nwx_N h] at hc
  rw [nwx_c (by omega) (by omega)]
  exact a3 c (by omega)
theorem ext.nw (h : al τ) (he : ext τ0 τ) (hs : 0 ≤ sl) : ext τ0 (nwx τ t l sl d) := by
  obtain ⟨⟨a1, a2⟩, a3, a4, a5⟩ := he
  have h1 := h.1
  refine ⟨⟨by rw [nwx_N h]; omega, by rw [nwx_Sl h]; omega⟩, fun i hi => by rw [nwx_K h hi]; exact a3 i hi, fun c q1 q2 q3 q4 => by rw [nwx_c (by omega) q1]; exact a4 c q1 q2 q3 q4, fun i q1 q2 q3 => by rw [nwx_c (by omega) (by decide)]; exact a5 i q1 q2 q3⟩
end Nwx
/-- a string of the signs w -/
def strX (τ : XS) (c : Int) (w : List Int) : Prop := (fre c ∧ τ c (-1) = 22) ∧ τ c 1 = 0 ∧ (fre (τ c 0) ∧ τ (τ c 0) (-1) = 102) ∧ τ (τ c 0) (-2) = w.length ∧ w.length ≤ 2000 ∧ ∀ (i : Nat) (x : Int), w[i]? = some x → τ (τ c 0) i = x ∧ 0 ≤ x ∧ x < 128
/-- an array of strings -/
def aryX (τ : XS) (c : Int) (ws : List (List Int)) : Prop := (fre c ∧ τ c (-1) = 115) ∧ τ c (-2) = ws.length ∧ ws.length ≤ 100 ∧ ∀ (i : Nat) (w : List Int), ws[i]? = some w → strX τ (τ c i) w
theorem tag_lt {τ : XS} (h : al τ) {c : Int} {t : Int} (hc : τ c (-1) = t) (ht : t ≠ 0) : c < τ (-1) 0 := by
  by_cases q : c < τ (-1) 0
  · exact q
  · exact absurd ((h.2.2 c (by omega)).symm.trans hc).symm ht
theorem ext.cell {τ τ' : XS} (ha : al τ) (he : ext τ τ') {c : Int} (hf : fre c) {t : Int} (hc : τ c (-1) = t) (ht : t ≠ 0) : τ' c = τ c := he.2.2.1 c (fre_ne hf) (by unfold fre at hf; omega) (by unfold fre at hf; omega) (tag_lt ha hc ht)
theorem strX.ext {τ τ' : XS} (ha : al τ) (he : ext τ τ') {c : Int} {w : List Int} (h : strX τ c w) : strX τ' c w := by
  obtain ⟨⟨a1, a2⟩, a3, ⟨b1, b2⟩, h⟩ := h
  unfold strX
  rw [he.cell ha a1 a2 (by decide), he.cell ha b1 b2 (by decide)]
  exact ⟨⟨a1, a2⟩, a3, ⟨b1, b2⟩, h⟩
theorem aryX.ext {τ τ' : XS} (ha : al τ) (he : ext τ τ') {c : Int} {ws : List (List Int)} (h : aryX τ c ws) : aryX τ' c ws := by
  obtain ⟨⟨a1, a2⟩, a3, a4, h⟩ := h
  unfold aryX
  rw [he.cell ha a1 a2 (by decide)]
  exact ⟨⟨a1, a2⟩, a3, a4, fun i w hw => (h i w hw).ext ha he⟩
/-- the reader's constants -/
def csl : List (Int × List Int) := [(120, [100, 117, 115, 107]), (121, [115, 97, 121, 105, 110, 103]), (122, [118, 101, 114, 98]), (123, [108, 101, 110, 116]), (124, [97, 116]), (125, [116, 111, 110, 101]), (126, [107, 105, 110, 100]), (127, [109, 105, 108, 100]), (128, [116, 97, 107, 101, 115]), (129, [119, 101, 108, 108]), (130, [116, 117, 114, 110, 115]), (131, [100, 105, 116, 99, 104]), (132, [110, 111, 116]), (133, [97, 108, 108]), (134, [109, 105, 110]), (135, [109, 97, 120]), (136, [97, 110, 100]), (137, [111, 114])]
def askW : List (List Int) := [[116, 111, 110, 101], [107, 105, 110, 100], [109, 105, 108, 100], [103, 105, 118, 101, 110], [100, 97, 121], [110, 117, 109, 98, 101, 114], [99, 111, 108, 117, 109, 110], [114, 111, 119], [103, 101, 116, 115]]
def lokW : List (List Int) := [[103, 105, 118, 101, 110], [119, 101, 108, 108]]
def tolW : List (List Int) := [[102, 105, 114, 115, 116], [108, 97, 115, 116], [111, 102, 116, 101, 110], [116, 111, 116, 97, 108], [109, 111, 115, 116], [108, 101, 97, 115, 116]]
def cst (τ : XS) : Prop := (∀ q ∈ csl, strX τ (τ (-1) q.1) q.2) ∧ aryX τ (τ (-1) 100) ownW ∧ aryX τ (τ (-1) 101) askW ∧ aryX τ (τ (-1) 102) lokW ∧ aryX τ (τ (-1) 103) tolW
theorem csl_2 : ∀ q ∈ csl, 2 ≤ q.1 := by decide
theorem cst.ext {τ τ' : XS} (ha : al τ) (he : ext τ τ') (h : cst τ) : cst τ' := by
  obtain ⟨h1, h2, h3, h4, h5⟩ := h
  refine ⟨fun q hq => by rw [he.2.1 q.1 (csl_2 q hq)]; exact (h1 q hq).ext ha he, ?_⟩
  rw [he.2.1 100 (by decide), he.2.1 101 (by decide), he.2.1 102 (by decide), he.2.1 103 (by decide)]
  exact ⟨h2.ext ha he, h3.ext ha he, h4.ext ha he, h5.ext ha he⟩
def sb (x : Int) : Int := if x < 128 then x else x - 256
theorem iand_sb {x : Int} (h : 0 ≤ x ∧ x < 256) : iand (sb x) 255 = x := by
  have : ∀ a : Fin 256, iand (sb (a.val : Int)) 255 = (a.val : Int) := by decide +kernel
  have := this ⟨x.toNat, by omega⟩
  simp only at this
  rw [Int.toNat_of_nonneg h.1] at this
  exact this
/-- the system reads on at p -/
def xG (T : Int → Int) (n : Int) (τ : XS) (p : Int) : Prop := tpOk T n ∧ (∀ k : Int, 0 ≤ k → k < 1600 → τ 6 k = sb (T k)) ∧ τ 7 1 = n ∧ τ 7 2 = p ∧ (0 ≤ p ∧ p ≤ n) ∧ al τ ∧ cst τ
/-- a fault has come -/
def xB (k pl : Int) (τ τ' : XS) : Prop := ext τ τ' ∧ al τ' ∧ τ' 8 6 = k ∧ τ' 8 7 = pl
/-- how many cells and slots are new at most -/
def rmo (c s : Int) (τ τ' : XS) : Prop := τ' (-1) 0 ≤ τ (-1) 0 + c ∧ τ' (-1) 1 ≤ τ (-1) 1 + s
theorem u7_N {τ : XS} {i x j : Int} : ux τ 7 i x (-1) j = τ (-1) j := by rw [ux_cell (by decide)]
theorem u8_N {τ : XS} {i x j : Int} : ux τ 8 i x (-1) j = τ (-1) j := by rw [ux_cell (by decide)]
section
variable {T : Int → Int} {n p : Int} {τ τ' : XS}
theorem xG.of (h : xG T n τ p) (he : ext τ τ') (ha : al τ') {q : Int} (h2 : τ' 7 2 = q) (hq : 0 ≤ q ∧ q ≤ n) : xG T n τ' q := by
  obtain ⟨ht, hT, h1, -, -, hal, hc⟩ := h
  have := hal.1
  refine ⟨ht, fun k h0 h1 => ?_, by rw [he.2.2.2 1 (by decide) (by decide) (by decide)]; exact h1, h2, hq, ha, hc.ext hal he⟩
  rw [he.2.2.1 6 (by decide) (by decide) (by decide) (by omega)]
  exact hT k h0 h1
theorem xG.to (h : xG T n τ p) {q : Int} (hq : 0 ≤ q ∧ q ≤ n) : xG T n (ux τ 7 2 q) q := h.of (ext.rf.u7 (Or.inl rfl)) (h.2.2.2.2.2.1.u (by decide) (by decide)) (by rw [ux_s]) hq
theorem xG.from (h : xG T n τ p) (x : Int) : xG T n (ux τ 7 3 x) p := h.of (ext.rf.u7 (Or.inr (Or.inl rfl))) (h.2.2.2.2.2.1.u (by decide) (by decide)) (by rw [ux_i _ _ _ _ (by decide)]; exact h.2.2.2.1) h.2.2.2.2.1
theorem xG.opn (h : xG T n τ p) (x : Int) : xG T n (ux τ 7 4 x) p := h.of (ext.rf.u7 (Or.inr (Or.inr rfl))) (h.2.2.2.2.2.1.u (by decide) (by decide)) (by rw [ux_i _ _ _ _ (by decide)]; exact h.2.2.2.1) h.2.2.2.2.1
theorem byteAt_ev (h : xG T n τ p) {k : Int} (hk : -1 ≤ k ∧ k ≤ 1600) : x2_byteAt k τ = some (bA T n k, τ) := by
  obtain ⟨ht, hT, h1, h2, hp, hal, hc⟩ := h
  have hn := ht.1
  unfold x2_byteAt
  by_cases c1 : k < 0
  · rw [bA_out (by omega)]
    simp (disch := omega) only [gd_t, gd_T, gd_ok, not_false_eq_true, eq_self, bnd_r, bind_s, ite_t, ite_n, ite_T, ite_F, i32_id, h1]
  · by_cases c2 : n ≤ k
    · rw [bA_out (by omega)]
      simp (disch := omega) only [gd_t, gd_T, gd_ok, not_false_eq_true, eq_self, bnd_r, bind_s, ite_t, ite_n, ite_T, ite_F, i32_id, h1]
    · rw [bA_in (by omega) (by omega)]
      have hb := ht.2 k (by omega) (by omega)
      have e := hT k (by omega) (by omega)
      simp (disch := omega) only [gd_t, gd_T, gd_ok, not_false_eq_true, eq_self, bnd_r, bind_s, ite_t, ite_n, ite_T, ite_F, i32_id, h1, e, iand_sb hb]
theorem here_go (k : XS → Option (Int × XS)) : ∀ (d fuel : Nat) (p : Int) (τ : XS), xG T n τ p → (n - p).toNat = d → d < fuel → x2_here_L0 k fuel τ = k (ux τ 7 2 (rn qB T n p)) := by
  intro d
  induction d with
  | zero =>
    intro fuel p τ h hd hf
    obtain ⟨g, rfl⟩ : ∃ g, fuel = g + 1 := ⟨fuel - 1, by omega⟩
    have hn := h.1.1
    have hp := h.2.2.2.2.1
    have h2 : τ 7 2 = p := h.2.2.2.1
    have hb : bA T n p = -1 := bA_out (by omega)
    rw [x2_here_L0, rn_stop (by rw [hb]; exact qB_1), ux_self h2]
    simp (disch := omega) only [gd_t, gd_T, gd_ok, not_false_eq_true, eq_self, bnd_r, bind_s, ite_t, ite_n, ite_T, ite_F, i32_id, h2, byteAt_ev h (k := p) (by omega), hb]
  | succ d ih =>
    intro fuel p τ h hd hf
    obtain ⟨g, rfl⟩ : ∃ g, fuel = g + 1 := ⟨fuel - 1, by omega⟩
    have hn := h.1.1
    have hp := h.2.2.2.2.1
    have h2 : τ 7 2 = p := h.2.2.2.1
    have hb := bA_b h.1 p
    rw [x2_here_L0]
    cases c : qB (bA T n p) with
    | true =>
      rw [rn_step qB_1 c]
      have e := ih g (p + 1) (ux τ 7 2 (p + 1)) (h.to (by omega)) (by omega) (by omega)
      rw [ux_ux] at e
      rw [qB_t] at c
      rcases c with c | c
      · simp (disch := omega) only [gd_t, gd_T, gd_ok, not_false_eq_true, eq_self, bnd_r, bind_s, ite_t, ite_n, ite_T, ite_F, i32_id, h2, byteAt_ev h (k := p) (by omega), c]
        exact e
      · simp (disch := omega) only [gd_t, gd_T, gd_ok, not_false_eq_true, eq_self, bnd_r, bind_s, ite_t, ite_n, ite_T, ite_F, i32_id, h2, byteAt_ev h (k := p) (by omega), c]
        exact e
    | false =>
      rw [rn_stop c, ux_self h2]
      rw [qB_f] at c
      simp (disch := omega) only [gd_t, gd_T, gd_ok, not_false_eq_true, eq_self, bnd_r, bind_s, ite_t, ite_n, ite_T, ite_F, i32_id, h2, byteAt_ev h (k := p) (by omega)]
theorem sk_b (h : xG T n τ p) : 0 ≤ rn qB T n p ∧ rn qB T n p ≤ n := by
  have hp := h.2.2.2.2.1
  have l1 := rn_le (q := qB) (T := T) (n := n) p
  have l2 := rn_hi (q := qB) (T := T) qB_1 hp.2
  exact ⟨by omega, l2⟩
theorem here_ev (h : xG T n τ p) : x2_here τ = some (bA T n (rn qB T n p), ux τ 7 2 (rn qB T n p)) := by
  have hn := h.1.1
  have hp := h.2.2.2.2.1
  have hs := sk_b h
  unfold x2_here
  rw [here_go _ _ FU p τ h rfl (by have := FU_ge; omega), ux_s]
  have := byteAt_ev (h.to hs) (k := rn qB T n p) (by omega)
  simp (disch := omega) only [gd_t, gd_T, gd_ok, not_false_eq_true, eq_self, bnd_r, bind_s, ite_t, ite_n, ite_T, ite_F, i32_id, this]
theorem isLetter_ev {c : Int} (τ : XS) (h : -1 ≤ c ∧ c < 256) : x0_isLetter c τ = some (b2i (qL c), τ) := by
  unfold x0_isLetter
  by_cases c1 : c < 97
  · rw [show qL c = false from qL_f.mpr (by omega)]; simp (disch := omega) only [gd_t, gd_T, gd_ok, not_false_eq_true, eq_self, bnd_r, bind_s, ite_t, ite_n, ite_T, ite_F, i32_id]; rfl
  · by_cases c2 : 122 < c
    · rw [show qL c = false from qL_f.mpr (by omega)]; simp (disch := omega) only [gd_t, gd_T, gd_ok, not_false_eq_true, eq_self, bnd_r, bind_s, ite_t, ite_n, ite_T, ite_F, i32_id]; rfl
    · rw [show qL c = true from qL_t.mpr (by omega)]; simp (disch := omega) only [gd_t, gd_T, gd_ok, not_false_eq_true, eq_self, bnd_r, bind_s, ite_t, ite_n, ite_T, ite_F, i32_id]; rfl
theorem isDigit_ev {c : Int} (τ : XS) (h : -1 ≤ c ∧ c < 256) : x0_isDigit c τ = some (b2i (qD c), τ) := by
  unfold x0_isDigit
  by_cases c1 : c < 48
  · rw [show qD c = false from qD_f.mpr (by omega)]; simp (disch := omega) only [gd_t, gd_T, gd_ok, not_false_eq_true, eq_self, bnd_r, bind_s, ite_t, ite_n, ite_T, ite_F, i32_id]; rfl
  · by_cases c2 : 57 < c
    · rw [show qD c = false from qD_f.mpr (by omega)]; simp (disch := omega) only [gd_t, gd_T, gd_ok, not_false_eq_true, eq_self, bnd_r, bind_s, ite_t, ite_n, ite_T, ite_F, i32_id]; rfl
    · rw [show qD c = true from qD_t.mpr (by omega)]; simp (disch := omega) only [gd_t, gd_T, gd_ok, not_false_eq_true, eq_self, bnd_r, bind_s, ite_t, ite_n, ite_T, ite_F, i32_id]; rfl
theorem b2i_0 : b2i false = 0 := rfl
theorem b2i_1 : b2i true = 1 := rfl
theorem wrong_ev (τ : XS) (k pl : Int) : x2_wrong k pl τ = some (8, ux (ux τ 8 6 k) 8 7 pl) := by
  unfold x2_wrong
  simp (disch := omega) only [gd_t, gd_T, gd_ok, not_false_eq_true, eq_self, bnd_r, bind_s, ite_t, ite_n, ite_T, ite_F, i32_id]
theorem xB.mk' {τ0 : XS} (he : ext τ0 τ) (ha : al τ) (k pl : Int) : xB k pl τ0 (ux (ux τ 8 6 k) 8 7 pl) := ⟨he.u8.u8, (ha.u (by decide) (by decide)).u (by decide) (by decide), by rw [ux_i _ _ _ _ (by decide), ux_s], by rw [ux_s]⟩
theorem parted_f (h : xG T n τ p) (hq : pd T n p = false) : x2_parted τ = some (0, 0, τ) := by
  have hn := h.1.1
  have hp := h.2.2.2.2.1
  have h2 : τ 7 2 = p := h.2.2.2.1
  have hb := bA_b h.1 (p - 1)
  unfold pd at hq
  rw [Bool.or_eq_false_iff] at hq
  unfold x2_parted
  simp (disch := omega) only [gd_t, gd_T, gd_ok, not_false_eq_true, eq_self, bnd_r, bind_s, ite_t, ite_n, ite_T, ite_F, i32_id, h2, byteAt_ev h (k := p - 1) (by omega), isLetter_ev τ hb, isDigit_ev τ hb, hq.1, hq.2, b2i_0]
theorem parted_t (h : xG T n τ p) (hq : pd T n p = true) : x2_parted τ = some (1, 0, ux (ux τ 8 6 1) 8 7 p) := by
  have hn := h.1.1
  have hp := h.2.2.2.2.1
  have h2 : τ 7 2 = p := h.2.2.2.1
  have hb := bA_b h.1 (p - 1)
  unfold pd at hq
  unfold x2_parted
  cases c : qL (bA T n (p - 1)) with
  | true => simp (disch := omega) only [gd_t, gd_T, gd_ok, not_false_eq_true, eq_self, bnd_r, bind_s, ite_t, ite_n, ite_T, ite_F, i32_id, h2, byteAt_ev h (k := p - 1) (by omega), isLetter_ev τ hb, isDigit_ev τ hb, c, b2i_1, wrong_ev]
  | false =>
    rw [c, Bool.false_or] at hq
    simp (disch := omega) only [gd_t, gd_T, gd_ok, not_false_eq_true, eq_self, bnd_r, bind_s, ite_t, ite_n, ite_T, ite_F, i32_id, h2, byteAt_ev h (k := p - 1) (by omega), isLetter_ev τ hb, isDigit_ev τ hb, c, hq, b2i_0, b2i_1, wrong_ev]
theorem word32 (k : XS → Option RX) : ∀ (d fuel : Nat) (p : Int) (τ : XS), xG T n τ p → (n - p).toNat = d → d < fuel → x2_word_2_L32 k fuel τ = k (ux τ 7 2 (rn qL T n p)) := by
  intro d
  induction d with
  | zero =>
    intro fuel p τ h hd hf
    obtain ⟨g, rfl⟩ : ∃ g, fuel = g + 1 := ⟨fuel - 1, by omega⟩
    have hn := h.1.1
    have hp := h.2.2.2.2.1
    have h2 : τ 7 2 = p := h.2.2.2.1
    have hb : bA T n p = -1 := bA_out (by omega)
    rw [x2_word_2_L32, rn_stop (by rw [hb]; exact qL_1), ux_self h2]
    simp (disch := omega) only [gd_t, gd_T, gd_ok, not_false_eq_true, eq_self, bnd_r, bind_s, ite_t, ite_n, ite_T, ite_F, i32_id, h2, byteAt_ev h (k := p) (by omega), hb, isLetter_ev τ (c := -1) (by omega), qL_1, b2i_0]
  | succ d ih =>
    intro fuel p τ h hd hf
    obtain ⟨g, rfl⟩ : ∃ g, fuel = g + 1 := ⟨fuel - 1, by omega⟩
    have hn := h.1.1
    have hp := h.2.2.2.2.1
    have h2 : τ 7 2 = p := h.2.2.2.1
    have hb := bA_b h.1 p
    rw [x2_word_2_L32]
    cases c : qL (bA T n p) with
    | true =>
      rw [rn_step qL_1 c]
      have e := ih g (p + 1) (ux τ 7 2 (p + 1)) (h.to (by omega)) (by omega) (by omega)
      rw [ux_ux] at e
      simp (disch := omega) only [gd_t, gd_T, gd_ok, not_false_eq_true, eq_self, bnd_r, bind_s, ite_t, ite_n, ite_T, ite_F, i32_id, h2, byteAt_ev h (k := p) (by omega), isLetter_ev τ hb, c, b2i_1]
      exact e
    | false =>
      rw [rn_stop c, ux_self h2]
      simp (disch := omega) only [gd_t, gd_T, gd_ok, not_false_eq_true, eq_self, bnd_r, bind_s, ite_t, ite_n, ite_T, ite_F, i32_id, h2, byteAt_ev h (k := p) (by omega), isLetter_ev τ hb, c, b2i_0]
/-- a cell's places from 0 to m are filled -/
def fil (τ : XS) (c : Int) (m : Int) (f : Int → Int) (τ' : XS) : Prop := (∀ d, d ≠ c → τ' d = τ d) ∧ (∀ j, ¬ (0 ≤ j ∧ j < m) → τ' c j = τ c j) ∧ ∀ j, 0 ≤ j → j < m → τ' c j = f j
theorem fil.step {c m : Int} {f : Int → Int} (h : fil τ c m f τ') (hm : 0 ≤ m) : fil τ c (m + 1) f (ux τ' c m (f m)) := by
  obtain ⟨h1, h2, h3⟩ := h
  refine ⟨fun d hd => by rw [ux_cell hd]; exact h1 d hd, fun j hj => by rw [ux_i _ _ _ _ (by omega)]; exact h2 j (by omega), fun j j0 j1 => ?_⟩
  by_cases q : j = m
  · rw [q, ux_s]
  · rw [ux_i _ _ _ _ q]; exact h3 j j0 (by omega)
theorem fil.zero {c : Int} {f : Int → Int} : fil τ c 0 f τ := ⟨fun _ _ => rfl, fun _ _ => rfl, fun j h0 h1 => by omega⟩
theorem word76 (k : Int → XS → Option RX) {q r c : Int} (ht : tpOk T n) (hq : 0 ≤ q) (hr : r ≤ n) (hle : ∀ j, q ≤ j → j < r → 0 ≤ T j ∧ T j < 128) (τ : XS) (hT : ∀ k : Int, 0 ≤ k → k < 1600 → τ 6 k = sb (T k)) (h2 : τ 7 2 = r) (h3 : τ 7 3 = q) (hc : 1514 ≤ c) (htg : τ c (-1) = 105) (hl : τ c (-2) = r - q) (hqr : q ≤ r) :
    ∃ τ', x2_word_2_L76 k FU c q τ = k c τ' ∧ fil τ c (r - q) (fun j => T (q + j)) τ' := by
  have hn := ht.1
  obtain ⟨τ', ⟨h0, h1⟩, e⟩ := for_loop (fun f i (t : XS) => x2_word_2_L76 k f c i t) (fun t => k c t) r (fun i t => q ≤ i ∧ fil τ c (i - q) (fun j => T (q + j)) t)
    (fun i t hI hi => by
      obtain ⟨i0, h4, h5, h6⟩ := hI
      have e7 : t 7 = τ 7 := h4 7 (by omega)
      have e6 : t 6 = τ 6 := h4 6 (by omega)
      have et : t c (-1) = 105 := by rw [h5 (-1) (by omega)]; exact htg
      have el : t c (-2) = r - q := by rw [h5 (-2) (by omega)]; exact hl
      have hb := hle i i0 hi
      have e61 := hT i (by omega) (by omega)
      have esb : sb (T i) = T i := by unfold sb; rw [if_pos hb.2]
      have hu : u16 (u16 (T i)) = T i := by unfold u16; omega
      have st := (show fil τ c (i - q) (fun j => T (q + j)) t from ⟨h4, h5, h6⟩).step (by omega)
      refine ⟨ux t c (i - q) (T i), ⟨by omega, ?_⟩, fun f => ?_⟩
      · rw [show i + 1 - q = i - q + 1 by omega]
        simp only [show q + (i - q) = i by omega] at st
        exact st
      · show x2_word_2_L76 k (f + 1) c i t = x2_word_2_L76 k f c (i + 1) _
        rw [x2_word_2_L76]
        have t1 := tgf (new_fre hc) et
        simp (disch := omega) only [gd_t, gd_T, gd_ok, not_false_eq_true, eq_self, bnd_r, bind_s, ite_t, ite_n, ite_T, ite_F, i32_id, e7, h2, h3, t1, ln_fre (new_fre hc), el, e6, e61, esb, hu])
    (fun t hI f => by
      obtain ⟨i0, h4, h5, h6⟩ := hI
      have e7 : t 7 = τ 7 := h4 7 (by omega)
      show x2_word_2_L76 k (f + 1) c r t = k c t
      rw [x2_word_2_L76]
      simp (disch := omega) only [gd_t, gd_T, gd_ok, not_false_eq_true, eq_self, bnd_r, bind_s, ite_t, ite_n, ite_T, ite_F, i32_id, e7, h2]) (r - q).toNat FU q τ ⟨Int.le_refl _, by rw [Int.sub_self]; exact fil.zero⟩ (by omega) (by have := FU_ge; omega)
  exact ⟨τ', e, h1⟩
theorem compress_ev {a c m : Int} (hc : 1514 ≤ c) (ha : 1514 ≤ a) (hac : a ≠ c) (w : Int → Int) (τ : XS) (hm : 0 ≤ m ∧ m ≤ 2000) (t1 : τ a (-1) = 105) (l1 : τ a (-2) = m) (t2 : τ c (-1) = 102) (l2 : τ c (-2) = m) (hw : ∀ j, 0 ≤ j → j < m → τ a j = w j ∧ 0 ≤ w j ∧ w j < 128) :
    ∃ τ', j7_compress_2 true a 0 c 0 m τ = some (m, τ') ∧ fil τ c m w τ' := by
  unfold j7_compress_2
  obtain ⟨τ', h1, e⟩ := for0 (fun f i (t : XS) => j7_compress_2_L3 true a c (fun (x4_28 : Int) (s29 : XS) => some (x4_28, s29)) (fun (x5_30 : Int) (s31 : XS) => some (x5_30, s31)) f i i m i t) (fun t => some (m, t)) m (fun i t => fil τ c i w t) (by omega) (by omega)
    (fun i t hI h0 hi => by
      obtain ⟨h4, h5, h6⟩ := hI
      obtain ⟨w1, w2, w3⟩ := hw i h0 hi
      have ea : t a = τ a := h4 a hac
      have et : t c (-1) = 102 := by rw [h5 (-1) (by omega)]; exact t2
      have el : t c (-2) = m := by rw [h5 (-2) (by omega)]; exact l2
      have g1 := tgf (τ := t) (t := 105) (new_fre ha) (by rw [ea]; exact t1)
      have g2 := tgf (τ := t) (t := 102) (new_fre hc) et
      have hi8 : i8 (i8 (w i)) = w i := by have e := Int.bmod_eq_of_le (n := w i) (m := 256) (by omega) (by omega); unfold i8; rw [e, e]
      refine ⟨ux t c i (w i), (show fil τ c i w t from ⟨h4, h5, h6⟩).step h0, fun f => ?_⟩
      show j7_compress_2_L3 _ _ _ _ _ (f + 1) i i m i t = j7_compress_2_L3 _ _ _ _ _ f (i + 1) (i + 1) m (i + 1) _
      rw [j7_compress_2_L3]
      simp (disch := omega) only [gd_t, gd_T, gd_ok, not_false_eq_true, eq_self, bnd_r, bind_s, ite_t, ite_n, ite_T, ite_F, i32_id, g1, g2, ln_fre (new_fre ha), ln_fre (new_fre hc), el, ea, l1, w1, hi8])
    (fun t hI f => by
      show j7_compress_2_L3 _ _ _ _ _ (f + 1) m m m m t = some (m, t)
      rw [j7_compress_2_L3]
      simp (disch := omega) only [gd_t, gd_T, gd_ok, not_false_eq_true, eq_self, bnd_r, bind_s, ite_t, ite_n, ite_T, ite_F, i32_id]) τ fil.zero
  exact ⟨τ', by simp (disch := omega) only [gd_t, gd_T, gd_ok, not_false_eq_true, eq_self, bnd_r, bind_s, ite_t, ite_n, ite_T, ite_F, i32_id]; exact e, h1⟩
theorem nwx_all (ha : al τ) (t l : Int) {sl : Int} (d : Int → Int) (hs : 0 ≤ sl) : ∃ τ1, nwx τ t l sl d = τ1 ∧ al τ1 ∧ ext τ τ1 ∧ τ1 (τ (-1) 0) (-1) = t ∧ τ1 (τ (-1) 0) (-2) = l ∧ (∀ i, 0 ≤ i → τ1 (τ (-1) 0) i = d i) ∧ τ1 (-1) 0 = τ (-1) 0 + 1 ∧ τ1 (-1) 1 = τ (-1) 1 + sl ∧ ∀ c, c ≠ τ (-1) 0 → c ≠ -1 → τ1 c = τ c :=
  ⟨_, rfl, ha.nw hs, ext.nw ha ext.rf hs, nwx_t, nwx_l, fun i hi => nwx_d hi, nwx_N ha, nwx_Sl ha, fun c h1 h2 => nwx_c h1 h2⟩
theorem getD_of {w : List Int} {i : Nat} (h : i < w.length) : w[i]? = some (w.getD i 0) := by
  rw [List.getD_eq_getElem?_getD, List.getElem?_eq_getElem h]
  rfl
theorem valueOf_ev (ha : al τ) {a m : Int} (h0 : 1514 ≤ a) (t1 : τ a (-1) = 105) (l1 : τ a (-2) = m) (hm : 1 ≤ m ∧ m ≤ 1600) {w : List Int} (hw : (w.length : Int) = m) (hx : ∀ (i : Nat) (x : Int), w[i]? = some x → τ a i = x ∧ 0 ≤ x ∧ x < 128) :
    ∃ τ', j6_valueOf true a τ = some (τ (-1) 0, τ') ∧ strX τ' (τ (-1) 0) w ∧ ext τ τ' ∧ al τ' ∧ τ' (-1) 0 = τ (-1) 0 + 2 ∧ τ' (-1) 1 = τ (-1) 1 + 4 + m ∧ τ' 7 = τ 7 ∧ τ' 8 = τ 8 ∧ τ' (τ (-1) 0) 2 = 0 ∧ τ' (τ (-1) 0) 3 = 0 := by
  have hN := ha.1
  have hS := ha.2.1
  have haN := tag_lt ha t1 (by decide)
  obtain ⟨s3, n1, n2, n3, n4, n5, n6, n7, n8, n9⟩ := nwx_all ha 22 0 (sl := 4) (dfl 22) (by omega)
  have ea : s3 a = τ a := n9 a (by omega) (by omega)
  obtain ⟨s6, m1, m2, m3, m4, m5, m6, m7, m8, m9⟩ := nwx_all n2 102 m (sl := m) (fun _ => 0) (by omega)
  rw [n7] at m4 m5 m6 m7 m9
  have ea6 : s6 a = τ a := by rw [m9 a (by omega) (by omega), ea]
  obtain ⟨s8, k1, k2, k3, k4⟩ := compress_ev (a := a) (c := τ (-1) 0 + 1) (m := m) (by omega) h0 (by omega) (fun j => w.getD j.toNat 0) s6 (by omega) (by rw [ea6]; exact t1) (by rw [ea6]; exact l1) m4 m5 (fun j j0 j1 => by
    have := hx j.toNat _ (getD_of (by omega))
    rw [Int.toNat_of_nonneg j0] at this
    rw [ea6]
    exact this)
  have eN : s8 (τ (-1) 0) = s3 (τ (-1) 0) := by rw [k2 _ (by omega), m9 _ (by omega) (by omega)]
  have e1 : s8 (-1) = s6 (-1) := k2 _ (by omega)
  have t8 : s8 (τ (-1) 0 + 1) (-1) = 102 := by rw [k3 _ (by omega)]; exact m4
  have l8 : s8 (τ (-1) 0 + 1) (-2) = m := by rw [k3 _ (by omega)]; exact m5
  have g1 := tgf (τ := s3) (t := 105) (new_fre h0) (by rw [ea]; exact t1)
  have g2 := tgf (τ := s8) (t := 22) (new_fre hN) (by rw [eN]; exact n4)
  have g3 := tgf (τ := s8) (t := 102) (new_fre (show 1514 ≤ τ (-1) 0 + 1 by omega)) t8
  have g4 := tgf (τ := ux s8 (τ (-1) 0) 1 0) (t := 22) (new_fre hN) (by rw [ux_i _ _ _ _ (by decide), eN]; exact n4)
  have he8 : ext τ s8 := by
    obtain ⟨⟨b1, b2⟩, b3, b4, b5⟩ := n3.tr m3
    refine ⟨by rw [e1]; exact ⟨b1, b2⟩, fun i hi => by rw [e1]; exact b3 i hi, fun c q1 q2 q3 q4 => by rw [k2 c (by omega)]; exact b4 c q1 q2 q3 q4, fun i q1 q2 q3 => by rw [k2 7 (by omega)]; exact b5 i q1 q2 q3⟩
  have ha8 : al s8 := by
    obtain ⟨b1, b2, b3⟩ := m2
    refine ⟨by rw [e1]; exact b1, by rw [e1]; exact b2, fun c hc => ?_⟩
    rw [e1] at hc
    rw [k2 c (by omega)]
    exact b3 c hc
  have z1 : iushr 0 31 = 0 := by decide
  have z2 : i8 0 = 0 := by decide
  refine ⟨ux (ux s8 (τ (-1) 0) 1 0) (τ (-1) 0) 0 (τ (-1) 0 + 1), ?_, ?_, (he8.un (Int.le_refl _) hN).un (Int.le_refl _) hN, (ha8.u (by omega) (by omega)).u (by omega) (by omega), ?_, ?_, ?_, ?_, ?_, ?_⟩
  · unfold j6_valueOf j6_init j6_init_2 j7_compress j7_coderFromArrayLen
    simp (disch := omega) only [gd_t, gd_T, gd_ok, not_false_eq_true, eq_self, bnd_r, bind_s, ite_t, ite_n, ite_T, ite_F, i32_id, n1, g1, ln_fre (new_fre h0), ea, l1, n7, m1, k1, g3, ln_fre (new_fre (show 1514 ≤ τ (-1) 0 + 1 by omega)), l8, Int.sub_self, z1, z2, g2, g4]
  · refine ⟨⟨new_fre hN, by rw [ux_i _ _ _ _ (by decide), ux_i _ _ _ _ (by decide), eN]; exact n4⟩, by rw [ux_i _ _ _ _ (by decide), ux_s], ?_⟩
    rw [ux_s, ux_cell (by omega), ux_cell (by omega)]
    refine ⟨⟨new_fre (by omega), t8⟩, by rw [l8]; omega, by omega, fun i x hi => ?_⟩
    have hl := (List.getElem?_eq_some_iff.mp hi).1
    refine ⟨?_, (hx i x hi).2⟩
    rw [k4 i (by omega) (by omega)]
    show w.getD ((i : Int)).toNat 0 = x
    rw [Int.toNat_natCast, List.getD_eq_getElem?_getD, hi]
    rfl
  · rw [ux_cell (by omega), ux_cell (by omega), e1, m7]; omega
  · rw [ux_cell (by omega), ux_cell (by omega), e1, m8, n8]
  · rw [ux_cell (by omega), ux_cell (by omega), k2 7 (by omega), m9 7 (by omega) (by omega), n9 7 (by omega) (by omega)]
  · rw [ux_cell (by omega), ux_cell (by omega), k2 8 (by omega), m9 8 (by omega) (by omega), n9 8 (by omega) (by omega)]
  · rw [ux_i _ _ _ _ (by decide), ux_i _ _ _ _ (by decide), eN, n6 2 (by decide)]; decide
  · rw [ux_i _ _ _ _ (by decide), ux_i _ _ _ _ (by decide), eN, n6 3 (by decide)]; decide
theorem word_evA (h : xG T n τ p) (c1 : qL (bA T n (rn qB T n p)) = true) (c2 : pd T n (rn qB T n p) = false) :
    ∃ c τ', x2_word_2 τ = some (0, c, τ') ∧ strX τ' c (wrd T n (rn qB T n p)) ∧ τ (-1) 0 ≤ c ∧ ext τ τ' ∧ xG T n τ' (rn qL T n (rn qB T n p)) ∧ τ' 7 3 = rn qB T n p ∧ τ' 7 4 = τ 7 4 ∧ rmo 3 (4 + 2 * (rn qL T n (rn qB T n p) - rn qB T n p)) τ τ' ∧ τ' c 2 = 0 ∧ τ' c 3 = 0 := by
  obtain ⟨ht, hT, h1, h2, hp, hal, hc⟩ := id h
  have hn := ht.1
  have hq := sk_b h
  have hb := bA_b ht (rn qB T n p)
  have hG1 := h.to hq
  generalize hQ : rn qB T n p = q at *
  have hr := rn_hi (q := qL) (T := T) qL_1 hq.2
  have hr2 := rn_lt (q := qL) (T := T) (n := n) qL_1 c1
  have hG2 := hG1.from q
  have hG3 := hG2.to (q := rn qL T n q) ⟨by omega, hr⟩
  have h32 := fun k => word32 k _ FU q (ux (ux τ 7 2 q) 7 3 q) hG2 rfl (by have := FU_ge; omega)
  generalize hR : rn qL T n q = r at *
  have hN := hal.1
  have hS := hal.2.1
  obtain ⟨s13, e13⟩ : ∃ s, ux (ux (ux τ 7 2 q) 7 3 q) 7 2 r = s := ⟨_, rfl⟩
  rw [e13] at hG3 h32
  have f13 : s13 (-1) = τ (-1) := by rw [← e13, ux_cell (by decide), ux_cell (by decide), ux_cell (by decide)]
  have f2 : s13 7 2 = r := by rw [← e13, ux_s]
  have f3 : s13 7 3 = q := by rw [← e13, ux_i _ _ _ _ (by decide), ux_s]
  have f4 : s13 7 4 = τ 7 4 := by rw [← e13, ux_i _ _ _ _ (by decide), ux_i _ _ _ _ (by decide), ux_i _ _ _ _ (by decide)]
  have he13 : ext τ s13 := by rw [← e13]; exact ((ext.rf.u7 (Or.inl rfl)).u7 (Or.inr (Or.inl rfl))).u7 (Or.inl rfl)
  obtain ⟨-, hT3, -, -, -, hal3, -⟩ := id hG3
  obtain ⟨s16, n1, n2, n3, n4, n5, n6, n7, n8, n9⟩ := nwx_all hal3 105 (r - q) (sl := r - q) (fun _ => 0) (by omega)
  rw [f13] at n4 n5 n6 n7 n8 n9
  have g6 : s16 6 = s13 6 := n9 6 (by omega) (by omega)
  have g7 : s16 7 = s13 7 := n9 7 (by omega) (by omega)
  have hle : ∀ j, q ≤ j → j < r → 0 ≤ T j ∧ T j < 128 := fun j j0 j1 => by
    have := rn_in (q := qL) (T := T) (n := n) (p := q) (k := j) j0 (by omega)
    rw [bA_in (by omega) (by omega), qL_t] at this
    omega
  obtain ⟨s32, k1, k2, k3, k4⟩ := word76 (fun (x1_31 : Int) (s32 : XS) => Option.bind (j6_valueOf true x1_31 s32) fun z33 => some (0, z33.1, z33.2)) (c := τ (-1) 0) ht hq.1 hr hle s16 (fun k k0 k1 => by rw [g6]; exact hT3 k k0 k1) (by rw [g7]; exact f2) (by rw [g7]; exact f3) hN n4 n5 (by omega)
  have e1 : s32 (-1) = s16 (-1) := k2 _ (by omega)
  have he32 : ext τ s32 := by
    obtain ⟨⟨b1, b2⟩, b3, b4, b5⟩ := he13.tr n3
    refine ⟨by rw [e1]; exact ⟨b1, b2⟩, fun i hi => by rw [e1]; exact b3 i hi, fun c q1 q2 q3 q4 => by rw [k2 c (by omega)]; exact b4 c q1 q2 q3 q4, fun i q1 q2 q3 => by rw [k2 7 (by omega)]; exact b5 i q1 q2 q3⟩
  have ha32 : al s32 := by
    obtain ⟨b1, b2, b3⟩ := n2
    refine ⟨by rw [e1]; exact b1, by rw [e1]; exact b2, fun c hc => ?_⟩
    rw [e1] at hc
    rw [k2 c (by omega)]
    exact b3 c hc
  obtain ⟨s33, v1, v2, v3, v4, v5, v6, v7, v8, v9, v10⟩ := valueOf_ev ha32 (a := τ (-1) 0) (m := r - q) hN (by rw [k3 _ (by omega)]; exact n4) (by rw [k3 _ (by omega)]; exact n5) (by omega) (w := wdl T q r) (by rw [wdl_len]; omega) (fun i x hi => by
    have hl := (List.getElem?_eq_some_iff.mp hi).1
    rw [wdl_len] at hl
    rw [wdl_get (by omega)] at hi
    cases hi
    exact ⟨k4 i (by omega) (by omega), hle (q + i) (by omega) (by omega)⟩)
  have e7 : s33 7 = s13 7 := by rw [v7, k2 7 (by omega), g7]
  refine ⟨s32 (-1) 0, s33, ?_, ?_, ?_, he32.tr v3, h.of (he32.tr v3) v4 (by rw [e7]; exact f2) ⟨by omega, hr⟩, by rw [e7]; exact f3, by rw [e7]; exact f4, ⟨?_, ?_⟩, v9, v10⟩
  · unfold x2_word_2
    have hl := isLetter_ev (ux τ 7 2 q) hb
    have hpt := parted_f hG1 c2
    have hh := here_ev h
    rw [hQ] at hh
    have nn : 0 ≤ s13 (-1) 0 ∧ 0 ≤ s13 (-1) 1 := by rw [f13]; omega
    simp (disch := omega) only [gd_t, gd_T, gd_ok, not_false_eq_true, eq_self, bnd_r, bind_s, ite_t, ite_n, ite_T, ite_F, i32_id, hh, hl, c1, b2i_1, hpt, ux_s, h32, gd_t nn, f2, f3, n1, g7, f13]
    rw [k1]
    simp (disch := omega) only [gd_t, gd_T, gd_ok, not_false_eq_true, eq_self, bnd_r, bind_s, ite_t, ite_n, ite_T, ite_F, i32_id, v1]
  · unfold wrd
    rw [hR]
    exact v2
  · rw [e1, n7]; omega
  · rw [v5, e1, n7]; omega
  · rw [v6, e1, n8]; omega
theorem word_ev (h : xG T n τ p) (c1 : qL (bA T n (rn qB T n p)) = true) (c2 : pd T n (rn qB T n p) = false) :
    ∃ c τ', x2_word_2 τ = some (0, c, τ') ∧ strX τ' c (wrd T n (rn qB T n p)) ∧ τ (-1) 0 ≤ c ∧ ext τ τ' ∧ xG T n τ' (rn qL T n (rn qB T n p)) ∧ τ' 7 3 = rn qB T n p ∧ τ' 7 4 = τ 7 4 ∧ rmo 3 (4 + 2 * (rn qL T n (rn qB T n p) - rn qB T n p)) τ τ' := by
  obtain ⟨c, τ', w1, w2, w3, w4, w5, w6, w7, w8, -⟩ := word_evA h c1 c2
  exact ⟨c, τ', w1, w2, w3, w4, w5, w6, w7, w8⟩
theorem word_bad (h : xG T n τ p) (hb : ¬ (qL (bA T n (rn qB T n p)) = true ∧ pd T n (rn qB T n p) = false)) : ∃ τ', x2_word_2 τ = some (1, 0, τ') ∧ xB 1 (rn qB T n p) τ τ' ∧ rmo 0 0 τ τ' := by
  have hq := sk_b h
  have hbb := bA_b h.1 (rn qB T n p)
  have hG1 := h.to hq
  have hal := h.2.2.2.2.2.1
  have ht : ∀ (x y : Int), ux (ux (ux τ 7 2 (rn qB T n p)) 8 6 x) 8 7 y (-1) = τ (-1) := fun x y => by rw [ux_cell (by decide), ux_cell (by decide), ux_cell (by decide)]
  refine ⟨ux (ux (ux τ 7 2 (rn qB T n p)) 8 6 1) 8 7 (rn qB T n p), ?_, xB.mk' (ext.rf.u7 (Or.inl rfl)) (hal.u (by decide) (by decide)) 1 _, by unfold rmo; rw [ht]; omega⟩
  unfold x2_word_2
  have hl := isLetter_ev (ux τ 7 2 (rn qB T n p)) hbb
  cases c1 : qL (bA T n (rn qB T n p)) with
  | false =>
    simp (disch := omega) only [gd_t, gd_T, gd_ok, not_false_eq_true, eq_self, bnd_r, bind_s, ite_t, ite_n, ite_T, ite_F, i32_id, here_ev h, hl, c1, b2i_0, wrong_ev, ux_s]
  | true =>
    have c2 : pd T n (rn qB T n p) = true := by
      cases hh : pd T n (rn qB T n p) with
      | true => rfl
      | false => exact absurd ⟨c1, hh⟩ hb
    simp (disch := omega) only [gd_t, gd_T, gd_ok, not_false_eq_true, eq_self, bnd_r, bind_s, ite_t, ite_n, ite_T, ite_F, i32_id, here_ev h, hl, c1, b2i_1, parted_t hG1 c2]
end
