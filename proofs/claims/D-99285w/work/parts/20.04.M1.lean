set_option maxRecDepth 100000
/-! the reference: the shortest round -/
def only (ks : List Nat) (s s' : MS) : Prop := ∀ k, k ∉ ks → s' k = s k
theorem only.rf {ks : List Nat} {s : MS} : only ks s s := fun _ _ => rfl
theorem only.tr {ks : List Nat} {s s' s'' : MS} (h : only ks s s') (h2 : only ks s' s'') : only ks s s'' := fun k hk => (h2 k hk).trans (h k hk)
theorem only.mono {ks ks' : List Nat} {s s' : MS} (h : only ks s s') (hs : ∀ k, k ∈ ks → k ∈ ks') : only ks' s s' := fun k hk => h k fun q => hk (hs k q)
theorem only.up {ks : List Nat} {s : MS} {k : Nat} {i x : Int} (h : k ∈ ks) : only ks s (up s k i x) := fun j hj => by
  funext q
  exact up_k _ _ _ _ (fun e => hj (e ▸ h))
/-- the array k holds the list -/
def holdsL (s : MS) (k : Nat) (l : List Int) : Prop := ∀ i : Int, 0 ≤ i → i < l.length → s k i = l.getD i.toNat 0
theorem fK_lo (l : List Int) : ∀ (f : Nat) (k : Int), -1 ≤ k → -1 ≤ fK l f k ∧ fK l f k ≤ k
  | 0, k, h => ⟨h, Int.le_refl _⟩
  | f + 1, k, h => by
    unfold fK
    split
    · exact ⟨h, Int.le_refl _⟩
    · split
      · exact ⟨h, Int.le_refl _⟩
      · have := fK_lo l f (k - 1) (by omega)
        omega
theorem m_nextK {n : Nat} (hn : n ≤ 6) {l : List Int} (hl : okL n l = true) (s : MS) (hs : holdsL s 57 l) (k : Int → Int → MS → Option (Int × MS)) :
    ∀ (f fuel : Nat) (x : Int), -1 ≤ x → x ≤ n - 2 → x + 1 < f → f ≤ fuel → m_isNextOrder_L4 k fuel n x s = k n (fK l f x) s := by
  intro f
  induction f with
  | zero => intro fuel x h0 h1 h2 h3; omega
  | succ f ih =>
    intro fuel x h0 h1 h2 h3
    obtain ⟨g, rfl⟩ : ∃ g, fuel = g + 1 := ⟨fuel - 1, by omega⟩
    have hlen := (okL_at hl).1
    rw [m_isNextOrder_L4, fK]
    by_cases c : x < 0
    · simp (disch := omega) only [gd_t, gd_T, gd_ok, not_false_eq_true, eq_self, bnd_r, bind_s, ite_t, ite_n, ite_T, ite_F, i32_id]
    · have a1 := okL_get hl (i := x) (by omega) (by omega)
      have a2 := okL_get hl (i := x + 1) (by omega) (by omega)
      have e1 := hs x (by omega) (by omega)
      have e2 := hs (x + 1) (by omega) (by omega)
      simp (disch := omega) only [gd_t, gd_T, gd_ok, not_false_eq_true, eq_self, bnd_r, bind_s, ite_t, ite_n, ite_T, ite_F, i32_id, e1, e2]
      by_cases c2 : l.getD x.toNat 0 ≤ l.getD (x + 1).toNat 0
      · simp (disch := omega) only [gd_t, gd_T, gd_ok, not_false_eq_true, eq_self, bnd_r, bind_s, ite_t, ite_n, ite_T, ite_F, i32_id]
      · simp (disch := omega) only [gd_t, gd_T, gd_ok, not_false_eq_true, eq_self, bnd_r, bind_s, ite_t, ite_n, ite_T, ite_F, i32_id]
        rw [show x + -1 = x - 1 by omega]
        exact ih g (x - 1) (by omega) (by omega) (by omega) (by omega)
theorem m_nextJ {n : Nat} (hn : n ≤ 6) {l : List Int} (hl : okL n l = true) (s : MS) (hs : holdsL s 57 l) (k : Int → Int → Int → MS → Option (Int × MS)) {q : Int} (hq0 : 0 ≤ q) (hq1 : q < n) :
    ∀ (f fuel : Nat) (x : Int), q ≤ x → x < n → x - q < f → f ≤ fuel → m_isNextOrder_L41 k fuel n q x s = k n q (fJ l (l.getD q.toNat 0) f x) s ∧ q ≤ fJ l (l.getD q.toNat 0) f x ∧ fJ l (l.getD q.toNat 0) f x ≤ x := by
  intro f
  induction f with
  | zero => intro fuel x h0 h1 h2 h3; omega
  | succ f ih =>
    intro fuel x h0 h1 h2 h3
    obtain ⟨g, rfl⟩ : ∃ g, fuel = g + 1 := ⟨fuel - 1, by omega⟩
    have hlen := (okL_at hl).1
    have a1 := okL_get hl (i := x) (by omega) (by omega)
    have a2 := okL_get hl (i := q) (by omega) (by omega)
    have e1 := hs x (by omega) (by omega)
    have e2 := hs q (by omega) (by omega)
    rw [m_isNextOrder_L41, fJ]
    simp (disch := omega) only [gd_t, gd_T, gd_ok, not_false_eq_true, eq_self, bnd_r, bind_s, ite_t, ite_n, ite_T, ite_F, i32_id, e1, e2]
    by_cases c2 : l.getD q.toNat 0 ≤ l.getD x.toNat 0
    · simp (disch := omega) only [gd_t, gd_T, gd_ok, not_false_eq_true, eq_self, bnd_r, bind_s, ite_t, ite_n, ite_T, ite_F, i32_id]
      exact ⟨trivial, by omega, by omega⟩
    · have hne : x ≠ q := fun h => c2 (by rw [h]; exact Int.le_refl _)
      simp (disch := omega) only [gd_t, gd_T, gd_ok, not_false_eq_true, eq_self, bnd_r, bind_s, ite_t, ite_n, ite_T, ite_F, i32_id]
      rw [show x + -1 = x - 1 by omega]
      have := ih g (x - 1) (by omega) (by omega) (by omega) (by omega)
      exact ⟨this.1, this.2.1, by omega⟩
theorem getD_set {l : List Int} {i j : Nat} {x : Int} (hi : i < l.length) : (l.set i x).getD j 0 = if j = i then x else l.getD j 0 := by
  simp only [List.getD_eq_getElem?_getD, List.getElem?_set]
  by_cases h : i = j
  · subst h; simp [hi]
  · rw [if_neg h, if_neg (fun e => h e.symm)]
theorem swp_len (l : List Int) (k j : Int) : (swp l k j).length = l.length := by simp [swp]
theorem swp_get {l : List Int} {k j : Int} (hk0 : 0 ≤ k) (hk : k < l.length) (hj0 : 0 ≤ j) (hj : j < l.length) {i : Int} (hi : 0 ≤ i) :
    (swp l k j).getD i.toNat 0 = if i = j then l.getD k.toNat 0 else if i = k then l.getD j.toNat 0 else l.getD i.toNat 0 := by
  unfold swp
  rw [getD_set (by rw [List.length_set]; omega), getD_set (by omega)]
  by_cases h1 : i = j
  · rw [if_pos (by omega), if_pos h1]
  · rw [if_neg (by omega), if_neg h1]
    by_cases h2 : i = k
    · rw [if_pos (by omega), if_pos h2]
    · rw [if_neg (by omega), if_neg h2]
theorem holds_swp {s : MS} {a : Nat} {l : List Int} (h : holdsL s a l) {k j : Int} (hk0 : 0 ≤ k) (hk : k < l.length) (hj0 : 0 ≤ j) (hj : j < l.length) :
    holdsL (up (up s a k (s a j)) a j (s a k)) a (swp l k j) := by
  intro i h0 h1
  rw [swp_len] at h1
  rw [swp_get hk0 hk hj0 hj h0, ← h k hk0 hk, ← h j hj0 hj, ← h i h0 h1]
  by_cases h1 : i = j
  · subst h1; simp [up]
  · by_cases h2 : i = k
    · subst h2; simp [up, h1]
    · simp [up, h1, h2]
theorem m_rev {n : Nat} (hn : n ≤ 6) (k : MS → Option (Int × MS)) :
    ∀ (f fuel : Nat) (a b : Int) (l : List Int) (s : MS), holdsL s 57 l → l.length = n → 0 ≤ a → b < n → (a ≤ b + 1) → b - a + 1 < f → f ≤ fuel → ∃ s', m_isNextOrder_L100 k fuel a b s = k s' ∧ holdsL s' 57 (rv f a b l) ∧ only [57] s s' ∧ (rv f a b l).length = n := by
  intro f
  induction f with
  | zero =>
    intro fuel a b l s hs hl h0 h1 h2 h3 h4
    omega
  | succ f ih =>
    intro fuel a b l s hs hl h0 h1 h2 h3 h4
    obtain ⟨g, rfl⟩ : ∃ g, fuel = g + 1 := ⟨fuel - 1, by omega⟩
    rw [m_isNextOrder_L100, rv]
    by_cases c : b ≤ a
    · simp (disch := omega) only [gd_t, gd_T, gd_ok, not_false_eq_true, eq_self, bnd_r, bind_s, ite_t, ite_n, ite_T, ite_F, i32_id]
      exact ⟨s, rfl, hs, only.rf, hl⟩
    · simp (disch := omega) only [gd_t, gd_T, gd_ok, not_false_eq_true, eq_self, bnd_r, bind_s, ite_t, ite_n, ite_T, ite_F, i32_id]
      rw [show b + -1 = b - 1 by omega]
      obtain ⟨s', h5, h6, h7, h8⟩ := ih g (a + 1) (b - 1) (swp l a b) _ (holds_swp hs (k := a) (j := b) (by omega) (by omega) (by omega) (by omega)) (by rw [swp_len]; exact hl) (by omega) (by omega) (by omega) (by omega) (by omega)
      exact ⟨s', h5, h6, ((only.up (by decide)).tr (only.up (by decide))).tr h7, h8⟩
theorem m_isNextOrder_none {n : Nat} (hn : n ≤ 6) {l : List Int} (hl : okL n l = true) (s : MS) (hs : holdsL s 57 l) (c : ¬ 0 ≤ fK l 8 ((n : Int) - 2)) : m_isNextOrder n s = some (0, s) := by
  unfold m_isNextOrder
  by_cases c0 : n = 0
  · subst c0
    obtain ⟨f, hf⟩ := FU_s
    rw [hf, bnd_r, m_isNextOrder_L4]
    simp (disch := omega) only [gd_t, gd_T, gd_ok, not_false_eq_true, eq_self, bnd_r, bind_s, ite_t, ite_n, ite_T, ite_F, i32_id]
  · have hk := fK_lo l 8 ((n : Int) - 2) (by omega)
    rw [bnd_r, m_nextK hn hl s hs _ 8 FU _ (by omega) (by omega) (by omega) (by have := FU_ge; omega)]
    simp (disch := omega) only [gd_t, gd_T, gd_ok, not_false_eq_true, eq_self, bnd_r, bind_s, ite_t, ite_n, ite_T, ite_F, i32_id]
theorem m_isNextOrder_some {n : Nat} (hn : n ≤ 6) {l : List Int} (hl : okL n l = true) (s : MS) (hs : holdsL s 57 l) (c : 0 ≤ fK l 8 ((n : Int) - 2)) :
    ∃ s', m_isNextOrder n s = some (1, s') ∧ holdsL s' 57 (rv 8 (fK l 8 ((n : Int) - 2) + 1) ((n : Int) - 1) (swp l (fK l 8 ((n : Int) - 2)) (fJ l (l.getD (fK l 8 ((n : Int) - 2)).toNat 0) 8 ((n : Int) - 1)))) ∧ only [57] s s' := by
  have hlen := (okL_at hl).1
  have c0 : n ≠ 0 := by
    intro h
    subst h
    rw [show fK l 8 (((0 : Nat) : Int) - 2) = -2 by rw [fK, if_pos (by decide)]; rfl] at c
    omega
  have hk := fK_lo l 8 ((n : Int) - 2) (by omega)
  generalize hq : fK l 8 ((n : Int) - 2) = q at *
  obtain ⟨-, j2, j3⟩ := m_nextJ hn hl s hs (fun _ _ _ _ => none) c (by omega) 8 FU ((n : Int) - 1) (by omega) (by omega) (by omega) (by have := FU_ge; omega)
  obtain ⟨s', h5, h6, h7, h8⟩ := m_rev hn (fun s58 => some (1, s58)) 8 FU (q + 1) ((n : Int) - 1) _ _ (holds_swp hs (k := q) (j := fJ l (l.getD q.toNat 0) 8 ((n : Int) - 1)) (by omega) (by omega) (by omega) (by omega)) (by rw [swp_len]; exact hlen) (by omega) (by omega) (by omega) (by omega) (by have := FU_ge; omega)
  refine ⟨s', ?_, h6, ((only.up (by decide)).tr (only.up (by decide))).tr h7⟩
  unfold m_isNextOrder
  rw [bnd_r, m_nextK hn hl s hs _ 8 FU _ (by omega) (by omega) (by omega) (by have := FU_ge; omega), hq, i32_id (by omega) (by omega), ite_t c, bnd_r, (m_nextJ hn hl s hs _ c (by omega) 8 FU ((n : Int) - 1) (by omega) (by omega) (by omega) (by have := FU_ge; omega)).1]
  simp (disch := omega) only [gd_t, gd_T, gd_ok, not_false_eq_true, eq_self, bnd_r, bind_s, ite_t, ite_n, ite_T, ite_F, i32_id]
  exact h5
theorem m_isNextOrder_ev {n : Nat} (hn : n ≤ 6) {l : List Int} (hl : okL n l = true) (s : MS) (hs : holdsL s 57 l) :
    (nextL n l = none → m_isNextOrder n s = some (0, s)) ∧ ∀ l', nextL n l = some l' → ∃ s', m_isNextOrder n s = some (1, s') ∧ holdsL s' 57 l' ∧ only [57] s s' := by
  unfold nextL
  by_cases c : 0 ≤ fK l 8 ((n : Int) - 2)
  · refine ⟨fun h => ?_, fun l' h => ?_⟩
    · rw [if_pos c] at h; cases h
    · rw [if_pos c] at h
      cases h
      exact m_isNextOrder_some hn hl s hs c
  · refine ⟨fun h => m_isNextOrder_none hn hl s hs c, fun l' h => ?_⟩
    rw [if_neg c] at h; cases h
/-! the places of the sayings, out of the reference's row 'now' -/
def wcol (w : Int → Int) (s : Int) : Int := w (8 + 10 * s)
def wrow (w : Int → Int) (s : Int) : Int := w (8 + 10 * s + 1)
def placeOk (n : Nat) (w : Int → Int) : Prop := ∀ s : Int, 0 ≤ s → s < n → (0 ≤ wcol w s ∧ wcol w s ≤ 9) ∧ 0 ≤ wrow w s ∧ wrow w s ≤ 9
theorem stp_b {n : Nat} {w : Int → Int} (h : placeOk n w) {x y s : Int} (hs0 : 0 ≤ s) (hs1 : s < n) (hx : 0 ≤ x ∧ x ≤ 9) (hy : 0 ≤ y ∧ y ≤ 9) : 0 ≤ stp (wcol w) (wrow w) x y s ∧ stp (wcol w) (wrow w) x y s ≤ 18 := by
  have := h s hs0 hs1
  unfold stp
  omega
theorem m_steps {n : Nat} (hn : n ≤ 6) {s : MS} (h : placeOk n (s 48)) {x y a : Int} (ha0 : 0 ≤ a) (ha1 : a < n) (hx : 0 ≤ x ∧ x ≤ 9) (hy : 0 ≤ y ∧ y ≤ 9) : m_stepsTo x y a s = some (stp (wcol (s 48)) (wrow (s 48)) x y a, s) := by
  have := h a ha0 ha1
  rw [m_stepsTo_ev s (by omega) this.1 this.2 hx hy]
  rfl
theorem drop_cons {l : List Int} {i : Int} (h0 : 0 ≤ i) (h1 : i < l.length) : l.drop i.toNat = l.getD i.toNat 0 :: l.drop (i + 1).toNat := by
  have : i.toNat < l.length := by omega
  rw [List.drop_eq_getElem_cons this, List.getD_eq_getElem?_getD, List.getElem?_eq_getElem this, show (i + 1).toNat = i.toNat + 1 by omega]
  rfl
theorem lenF_b {n : Nat} {w : Int → Int} (h : placeOk n w) : ∀ (l : List Int) (x y : Int), (∀ a ∈ l, 0 ≤ a ∧ a < n) → (0 ≤ x ∧ x ≤ 9) → (0 ≤ y ∧ y ≤ 9) → 0 ≤ lenF (wcol w) (wrow w) x y l ∧ lenF (wcol w) (wrow w) x y l ≤ 18 * l.length
  | [], _, _, _, _, _ => by simp [lenF]
  | a :: l, x, y, hl, hx, hy => by
    have h1 := hl a List.mem_cons_self
    have h2 := h a h1.1 h1.2
    have h3 := stp_b h h1.1 h1.2 hx hy
    have h4 := lenF_b h l (wcol w a) (wrow w a) (fun b hb => hl b (List.mem_cons_of_mem _ hb)) h2.1 h2.2
    rw [lenF, List.length_cons]
    omega
theorem m_orderLong_go {n : Nat} (hn : n ≤ 6) {s : MS} (h36 : s 36 2 = n) (hp : placeOk n (s 48)) {l : List Int} (hl : okL n l = true) (hs : holdsL s 57 l) :
    ∀ (d fuel : Nat) (i t x y : Int), 0 ≤ i → i + d = n → d < fuel → 0 ≤ t → t ≤ 18 * i → (0 ≤ x ∧ x ≤ 9) → (0 ≤ y ∧ y ≤ 9) → ∀ k, m_orderLong_L9 k fuel t x y i s = k (t + lenF (wcol (s 48)) (wrow (s 48)) x y (l.drop i.toNat)) s := by
  intro d
  induction d with
  | zero =>
    intro fuel i t x y h0 h1 h2 h3 h4 hx hy k
    obtain ⟨g, rfl⟩ : ∃ g, fuel = g + 1 := ⟨fuel - 1, by omega⟩
    have hlen := (okL_at hl).1
    rw [m_orderLong_L9, List.drop_eq_nil_of_le (by omega)]
    simp (disch := omega) only [gd_t, gd_T, gd_ok, not_false_eq_true, eq_self, bnd_r, bind_s, ite_t, ite_n, ite_T, ite_F, i32_id, m_sayingMany_ev, h36, lenF, Int.add_zero]
  | succ d ih =>
    intro fuel i t x y h0 h1 h2 h3 h4 hx hy k
    obtain ⟨g, rfl⟩ : ∃ g, fuel = g + 1 := ⟨fuel - 1, by omega⟩
    have hlen := (okL_at hl).1
    have e1 := hs i (by omega) (by omega)
    have a1 := okL_get hl (i := i) (by omega) (by omega)
    have p1 := hp _ a1.1 a1.2
    have p2 := stp_b hp a1.1 a1.2 hx hy
    rw [m_orderLong_L9, drop_cons h0 (by omega), lenF]
    simp (disch := omega) only [gd_t, gd_T, gd_ok, not_false_eq_true, eq_self, bnd_r, bind_s, ite_t, ite_n, ite_T, ite_F, i32_id, m_sayingMany_ev, h36, e1, m_steps hn hp a1.1 a1.2 hx hy, m_columnOf_ev, m_rowOf_ev]
    refine (ih g (i + 1) _ _ _ (by omega) (by omega) (by omega) (by omega) (by omega) p1.1 p1.2 k).trans ?_
    rw [Int.add_assoc]
theorem m_orderLong_ev {n : Nat} (hn : n ≤ 6) {s : MS} (h36 : s 36 2 = n) (hp : placeOk n (s 48)) {l : List Int} (hl : okL n l = true) (hs : holdsL s 57 l) : m_orderLong s = some (lenF (wcol (s 48)) (wrow (s 48)) 0 0 l, s) := by
  unfold m_orderLong
  simp only [bnd_r]
  rw [m_orderLong_go hn h36 hp hl hs n FU 0 0 0 0 (by omega) (by omega) (by have := FU_ge; omega) (by omega) (by omega) (by omega) (by omega)]
  simp
/-- filling an array from another, or with its own numbers -/
theorem m_layId {n : Nat} (hn : n ≤ 6) (k : MS → Option (Int × MS)) (s : MS) (h36 : s 36 2 = n) : ∃ s', m_laysRound_L2 k FU 0 s = k s' ∧ holdsL s' 57 (rng n) ∧ only [57] s s' := by
  obtain ⟨s', h1, h2⟩ := for0 (fun f i s => m_laysRound_L2 k f i s) k n (fun i t => only [57] s t ∧ ∀ j : Int, 0 ≤ j → j < i → t 57 j = j) (by omega) (by omega)
    (fun i t hI h0 hi => by
      refine ⟨up t 57 i i, ⟨hI.1.tr (only.up (by decide)), fun j hj0 hj1 => ?_⟩, fun f => ?_⟩
      · by_cases c : j = i
        · subst c; simp [up]
        · rw [up_i _ _ _ _ c]; exact hI.2 j hj0 (by omega)
      · have e : t 36 2 = n := by rw [hI.1 36 (by decide), h36]
        rw [m_laysRound_L2]
        simp (disch := omega) only [gd_t, gd_T, gd_ok, not_false_eq_true, eq_self, bnd_r, bind_s, ite_t, ite_n, ite_T, ite_F, i32_id, m_sayingMany_ev, e])
    (fun t hI f => by
      have e : t 36 2 = n := by rw [hI.1 36 (by decide), h36]
      rw [m_laysRound_L2]
      simp (disch := omega) only [gd_t, gd_T, gd_ok, not_false_eq_true, eq_self, bnd_r, bind_s, ite_t, ite_n, ite_T, ite_F, i32_id, m_sayingMany_ev, e]) s ⟨only.rf, fun j h0 h1 => by omega⟩
  refine ⟨s', h2, fun i h0 h3 => ?_, h1.1⟩
  have hl : (rng n).length = n := by simp [rng]
  rw [h1.2 i h0 (by omega)]
  have : i.toNat < n := by omega
  rw [rng, List.getD_eq_getElem?_getD, List.getElem?_map, List.getElem?_range this]
  simp
  omega
theorem m_layCopy {n : Nat} (hn : n ≤ 6) (k : MS → Option (Int × MS)) (s : MS) (h36 : s 36 2 = n) {l : List Int} (hl : l.length = n) (hs : holdsL s 57 l) : ∃ s', m_laysRound_L62 k FU 0 s = k s' ∧ holdsL s' 58 l ∧ only [58] s s' := by
  obtain ⟨s', h1, h2⟩ := for0 (fun f i s => m_laysRound_L62 k f i s) k n (fun i t => only [58] s t ∧ ∀ j : Int, 0 ≤ j → j < i → t 58 j = s 57 j) (by omega) (by omega)
    (fun i t hI h0 hi => by
      have e2 : t 57 = s 57 := hI.1 57 (by decide)
      refine ⟨up t 58 i (t 57 i), ⟨hI.1.tr (only.up (by decide)), fun j hj0 hj1 => ?_⟩, fun f => ?_⟩
      · by_cases c : j = i
        · subst c; simp [up, e2]
        · rw [up_i _ _ _ _ c]; exact hI.2 j hj0 (by omega)
      · have e : t 36 2 = n := by rw [hI.1 36 (by decide), h36]
        rw [m_laysRound_L62]
        simp (disch := omega) only [gd_t, gd_T, gd_ok, not_false_eq_true, eq_self, bnd_r, bind_s, ite_t, ite_n, ite_T, ite_F, i32_id, m_sayingMany_ev, e])
    (fun t hI f => by
      have e : t 36 2 = n := by rw [hI.1 36 (by decide), h36]
      rw [m_laysRound_L62]
      simp (disch := omega) only [gd_t, gd_T, gd_ok, not_false_eq_true, eq_self, bnd_r, bind_s, ite_t, ite_n, ite_T, ite_F, i32_id, m_sayingMany_ev, e]) s ⟨only.rf, fun j h0 h1 => by omega⟩
  refine ⟨s', h2, fun i h0 h3 => ?_, h1.1⟩
  rw [h1.2 i h0 (by omega), hs i h0 h3]
/-- what the round holds: the best of those gone through -/
def rdOk (n : Nat) (s : MS) (b : Option (List Int)) : Prop := match b with
  | none => s 59 0 = -1
  | some l => okL n l = true ∧ s 59 0 = lenF (wcol (s 48)) (wrow (s 48)) 0 0 l ∧ holdsL s 58 l
theorem rdOk.only {n : Nat} {s s' : MS} {b : Option (List Int)} (h : rdOk n s b) (h1 : s' 48 = s 48) (h2 : s' 58 = s 58) (h3 : s' 59 = s 59) : rdOk n s' b := by
  cases b with
  | none => exact (congrFun h3 0).trans h
  | some l =>
    obtain ⟨a, b, c⟩ := h
    refine ⟨a, by rw [h3, h1]; exact b, fun i h0 h4 => by rw [h2]; exact c i h0 h4⟩
theorem holdsL.of {s s' : MS} {k : Nat} {l : List Int} (h : holdsL s k l) (e : s' k = s k) : holdsL s' k l := fun i h0 h1 => by rw [e]; exact h i h0 h1
theorem m_round_step {n : Nat} (hn : n ≤ 6) (k : MS → Option (Int × MS)) (g : Nat) (l : List Int) (s : MS) (b : Option (List Int)) (hl : okL n l = true) (h36 : s 36 2 = n) (hp : placeOk n (s 48)) (hs : holdsL s 57 l) (hb : rdOk n s b) :
    ∃ s1, m_laysRound_L30 k (g + 1) 1 s = Option.bind (m_isNextOrder n s1) (fun z => m_laysRound_L30 k g z.1 z.2) ∧ only [58, 59] s s1 ∧ rdOk n s1 (better (lenF (wcol (s 48)) (wrow (s 48)) 0 0) b l) := by
  have hlen := okL_at hl
  have hb1 := lenF_b hp l 0 0 hlen.2 (by omega) (by omega)
  have hO := m_orderLong_ev hn h36 hp hl hs
  generalize hL : lenF (wcol (s 48)) (wrow (s 48)) 0 0 l = L at *
  have take : ∀ c : Prop, ∃ s1, m_laysRound_L62 (fun s37 => Option.bind (m_isNextOrder (s37 36 2) s37) (fun z => m_laysRound_L30 k g z.1 z.2)) FU 0 (up s 59 0 L) = Option.bind (m_isNextOrder n s1) (fun z => m_laysRound_L30 k g z.1 z.2) ∧ only [58, 59] s s1 ∧ rdOk n s1 (some l) := by
    intro _
    obtain ⟨s1, e1, e2, e3⟩ := m_layCopy hn (fun s37 => Option.bind (m_isNextOrder (s37 36 2) s37) (fun z => m_laysRound_L30 k g z.1 z.2)) (up s 59 0 L) (by simp [up, h36]) hlen.1 (hs.of (by funext i; simp [up]))
    refine ⟨s1, ?_, (only.up (by decide)).tr (e3.mono (by decide)), hl, ?_, e2⟩
    · rw [e1, e3 36 (by decide)]
      simp [up, h36]
    · have q1 : s1 59 = up s 59 0 L 59 := e3 59 (by decide)
      have q2 : s1 48 = s 48 := by rw [e3 48 (by decide)]; funext i; simp [up]
      rw [q1, q2, hL]
      simp [up]
  rw [m_laysRound_L30]
  simp (disch := omega) only [gd_t, gd_T, gd_ok, not_false_eq_true, eq_self, bnd_r, bind_s, ite_t, ite_n, ite_T, ite_F, i32_id, hO, m_sayingMany_ev]
  cases b with
  | none =>
    have h59 : s 59 0 = -1 := hb
    simp (disch := omega) only [gd_t, gd_T, gd_ok, not_false_eq_true, eq_self, bnd_r, bind_s, ite_t, ite_n, ite_T, ite_F, i32_id, h59]
    exact take True
  | some l0 =>
    obtain ⟨b1, b2, b3⟩ := hb
    have hb2 := lenF_b hp l0 0 0 (okL_at b1).2 (by omega) (by omega)
    have hl0 := (okL_at b1).1
    rw [← b2] at hb2
    rw [better_some, ← b2, hL]
    by_cases c : L < s 59 0
    · simp (disch := omega) only [gd_t, gd_T, gd_ok, not_false_eq_true, eq_self, bnd_r, bind_s, ite_t, ite_n, ite_T, ite_F, i32_id]
      exact take True
    · simp (disch := omega) only [gd_t, gd_T, gd_ok, not_false_eq_true, eq_self, bnd_r, bind_s, ite_t, ite_n, ite_T, ite_F, i32_id]
      exact ⟨s, by rw [h36], only.rf, b1, b2, b3⟩
theorem m_round_go {n : Nat} (hn : n ≤ 6) (k : MS → Option (Int × MS)) :
    ∀ (ls : List (List Int)) (fuel : Nat) (l : List Int) (s : MS) (b : Option (List Int)), chain n (l :: ls) = true → (l :: ls).all (okL n) = true → ls.length + 1 < fuel → s 36 2 = n → placeOk n (s 48) → holdsL s 57 l → rdOk n s b →
      ∃ s', m_laysRound_L30 k fuel 1 s = k s' ∧ only [57, 58, 59] s s' ∧ rdOk n s' ((l :: ls).foldl (better (lenF (wcol (s 48)) (wrow (s 48)) 0 0)) b) := by
  intro ls
  induction ls with
  | nil =>
    intro fuel l s b hc ha hf h36 hp hs hb
    obtain ⟨g, rfl⟩ : ∃ g, fuel = g + 1 + 1 := ⟨fuel - 2, by simp at hf; omega⟩
    have hl : okL n l = true := by simpa using ha
    obtain ⟨s1, e1, e2, e3⟩ := m_round_step hn k (g + 1) l s b hl h36 hp hs hb
    have hc : nextL n l = none := by simpa [chain] using hc
    refine ⟨s1, ?_, e2.mono (by decide), e3⟩
    rw [e1, (m_isNextOrder_ev hn hl s1 (hs.of (e2 57 (by decide)))).1 hc, bind_s, m_laysRound_L30]
    simp (disch := omega) only [gd_t, gd_T, gd_ok, not_false_eq_true, eq_self, bnd_r, bind_s, ite_t, ite_n, ite_T, ite_F, i32_id]
  | cons l' ls ih =>
    intro fuel l s b hc ha hf h36 hp hs hb
    obtain ⟨g, rfl⟩ : ∃ g, fuel = g + 1 := ⟨fuel - 1, by simp at hf; omega⟩
    have hl : okL n l = true := by simp at ha; exact ha.1
    obtain ⟨s1, e1, e2, e3⟩ := m_round_step hn k g l s b hl h36 hp hs hb
    simp only [chain, Bool.and_eq_true, beq_iff_eq] at hc
    obtain ⟨s2, f1, f2, f3⟩ := (m_isNextOrder_ev hn hl s1 (hs.of (e2 57 (by decide)))).2 l' hc.1
    have q48 : s2 48 = s 48 := by rw [f3 48 (by decide), e2 48 (by decide)]
    obtain ⟨s', a1, a2, a3⟩ := ih g l' s2 _ hc.2 (by simp at ha ⊢; exact ha.2) (by simp at hf ⊢; omega) (by rw [f3 36 (by decide), e2 36 (by decide), h36]) (by rw [q48]; exact hp) f2 (e3.only (f3 48 (by decide)) (f3 58 (by decide)) (f3 59 (by decide)))
    refine ⟨s', ?_, ((e2.mono (by decide)).tr (f3.mono (by decide))).tr a2, ?_⟩
    · rw [e1, f1, bind_s, a1]
    · rw [q48] at a3
      exact a3
/-- the shortest round, the first of the shortest -/
def rd (n : Nat) (w : Int → Int) : Option (List Int) := (perms n (rng n)).foldl (better (lenF (wcol w) (wrow w) 0 0)) none
theorem m_laysRound_ev {n : Nat} (hn : n ≤ 6) (s : MS) (h36 : s 36 2 = n) (hp : placeOk n (s 48)) : ∃ s', m_laysRound s = some (0, s') ∧ only [57, 58, 59] s s' ∧ rdOk n s' (rd n (s 48)) := by
  obtain ⟨c1, c2, c3⟩ := perms_chain n hn
  cases hP : perms n (rng n) with
  | nil => rw [hP] at c1; cases c1
  | cons l ls =>
    rw [hP] at c1 c2 c3
    cases c2
    unfold rd
    rw [hP]
    unfold m_laysRound
    simp (disch := omega) only [gd_t, gd_T, gd_ok, not_false_eq_true, eq_self, bnd_r, bind_s, ite_t, ite_n, ite_T, ite_F, i32_id]
    obtain ⟨s1, e1, e2, e3⟩ := m_layId hn (fun s10 => m_laysRound_L30 (fun s41 => some (0, s41)) FU 1 (up s10 59 0 (-1))) s h36
    rw [e1]
    have q48 : up s1 59 0 (-1) 48 = s 48 := by rw [← e3 48 (by decide)]; funext i; simp [up]
    have hlen : ls.length + 1 < FU := by
      have : (perms n (rng n)).length ≤ 720 := by
        have : ∀ n, n ≤ 6 → (perms n (rng n)).length ≤ 720 := by decide +kernel
        exact this n hn
      rw [hP] at this
      have := FU_ge
      simp at *
      omega
    obtain ⟨s', a1, a2, a3⟩ := m_round_go hn (fun s41 => some (0, s41)) ls FU (rng n) (up s1 59 0 (-1)) none c1 c3 hlen (by rw [up_k _ _ _ _ (by decide), e3 36 (by decide), h36]) (by rw [q48]; exact hp) (e2.of (by funext i; simp [up])) (by simp [rdOk, up])
    refine ⟨s', a1, ((e3.mono (by decide)).tr (only.up (by decide))).tr a2, ?_⟩
    rw [q48] at a3
    exact a3
