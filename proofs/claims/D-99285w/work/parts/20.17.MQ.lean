set_option maxRecDepth 100000
/-! LAYER 2: the reference reads sums: what waits, codes -/
def hR (s : MS) (k : Nat) (l : List Int) : Prop := ∀ (i : Nat) (x : Int), l[i]? = some x → s k i = x
def pks : List Nat := [2, 4, 5, 6, 34, 96, 97, 98, 99, 100, 101]
section
variable {T : Int → Int} {n p tk b o : Int} {s s' : MS} {C W : List Int}
theorem hR.of {k : Nat} {l : List Int} (h : hR s k l) (e : s' k = s k) : hR s' k l := fun i x hx => by rw [e]; exact h i x hx
theorem hR.pre {k : Nat} {l r : List Int} (h : hR s k (l ++ r)) : hR s k l := fun i x hx => h i x (by
  have := (List.getElem?_eq_some_iff.mp hx).1
  rw [List.getElem?_append_left this]; exact hx)
theorem hR.last {k : Nat} {l : List Int} {x : Int} (h : hR s k (l ++ [x])) : s k l.length = x := h l.length x (by rw [List.getElem?_append_right (Nat.le_refl _)]; simp)
theorem hR.snoc {k : Nat} {l : List Int} (h : hR s k l) (x : Int) : hR (up s k l.length x) k (l ++ [x]) := by
  intro i y hy
  by_cases c : i < l.length
  · rw [List.getElem?_append_left c] at hy
    rw [up_i _ _ _ _ (by omega)]
    exact h i y hy
  · rw [List.getElem?_append_right (by omega)] at hy
    have hi : i = l.length := by
      have := (List.getElem?_eq_some_iff.mp hy).1
      simp at this
      omega
    subst hi
    simp at hy
    rw [up_s, hy]
/-- the reference reads a sum or a test: codes C, what waits W (from b on in the sum at hand), o open -/
def mQ (T : Int → Int) (n tk : Int) (s : MS) (p : Int) (C W : List Int) (b o : Int) : Prop := mG T n s p ∧ ((s 97 0 = C.length ∧ hR s 96 C) ∧ s 99 0 = W.length ∧ hR s 98 W) ∧ (s 100 0 = o ∧ s 101 0 = b) ∧ s 47 0 = tk ∧ (0 ≤ o ∧ o ≤ 6) ∧ (0 ≤ b ∧ b ≤ W.length) ∧ ∀ y ∈ W, 0 ≤ y ∧ y < 100
theorem mG.of' (h : mG T n s p) {ks : List Nat} (ho : only ks s s') (hk : ∀ a ∈ ([0, 2, 3, 4, 5, 6] ++ wfs : List Nat), a ∉ ks) : mG T n s' p := by
  obtain ⟨ht, g0, g3, g2, g5, gp, g4, gi, gw⟩ := h
  have e4 : s' 4 = s 4 := ho 4 (hk 4 (by decide))
  exact ⟨ht, by rw [ho 0 (hk 0 (by decide)), g0], by rw [ho 3 (hk 3 (by decide)), g3], by rw [ho 2 (hk 2 (by decide)), g2], by rw [ho 5 (hk 5 (by decide)), g5], gp, by rw [e4]; exact g4, by rw [e4]; exact gi, gw.1.of ho (fun a ha => hk a (List.mem_append_right _ ha)), by rw [ho 6 (hk 6 (by decide))]; exact gw.2⟩
theorem mQ.at' (h : mQ T n tk s p C W b o) {p' : Int} (ho : only [2, 4] s s') (hg : mG T n s' p') : mQ T n tk s' p' C W b o := by
  obtain ⟨-, ⟨⟨a1, a2⟩, a3, a4⟩, ⟨a5, a6⟩, a7, a8, a9, a10⟩ := h
  exact ⟨hg, ⟨⟨by rw [ho 97 (by decide)]; exact a1, a2.of (ho 96 (by decide))⟩, by rw [ho 99 (by decide)]; exact a3, a4.of (ho 98 (by decide))⟩, ⟨by rw [ho 100 (by decide)]; exact a5, by rw [ho 101 (by decide)]; exact a6⟩, by rw [ho 47 (by decide)]; exact a7, a8, a9, a10⟩
theorem mQ.at2 (h : mQ T n tk s p C W b o) {p' : Int} (ho : only [2] s s') (hg : mG T n s' p') : mQ T n tk s' p' C W b o := h.at' (ho.mono (by decide)) hg
theorem mQ.b5 (h : mQ T n tk s p C W b o) : s 5 0 = 0 := h.1.2.2.2.2.1
theorem qCode_ev (h : mQ T n tk s p C W b o) (hl : C.length < 1700) (v : Int) : ∃ s', m_qCode v s = some (0, s') ∧ only pks s s' ∧ mQ T n tk s' p (C ++ [v]) W b o := by
  obtain ⟨g, ⟨⟨a1, a2⟩, a3, a4⟩, ⟨a5, a6⟩, a7, a8, a9, a10⟩ := h
  refine ⟨up (up s 96 C.length v) 97 0 (C.length + 1), ?_, (only.up (by decide)).tr (only.up (by decide)), ?_⟩
  · have e : up s 96 C.length v 97 0 = C.length := by rw [up_k _ _ _ _ (by decide)]; exact a1
    unfold m_qCode
    simp (disch := omega) only [gd_t, gd_T, gd_ok, not_false_eq_true, eq_self, bnd_r, bind_s, ite_t, ite_n, ite_T, ite_F, i32_id, a1, e]
  · have ho : only [96, 97] s (up (up s 96 C.length v) 97 0 (C.length + 1)) := (only.up (by decide)).tr (only.up (by decide))
    refine ⟨g.of' ho (by decide), ⟨⟨by rw [up_s, List.length_append, List.length_singleton]; omega, (a2.snoc v).of (up_row (by decide))⟩, by rw [ho 99 (by decide)]; exact a3, a4.of (ho 98 (by decide))⟩, ⟨by rw [ho 100 (by decide)]; exact a5, by rw [ho 101 (by decide)]; exact a6⟩, by rw [ho 47 (by decide)]; exact a7, a8, a9, a10⟩
theorem qDrops_ev {x : Int} (h : mQ T n tk s p C (W ++ [x]) b o) (hl : C.length + W.length < 1699) (hb : b ≤ W.length) : ∃ s', m_qDrops s = some (0, s') ∧ only pks s s' ∧ mQ T n tk s' p (C ++ [x]) W b o := by
  obtain ⟨g, ⟨⟨a1, a2⟩, a3, a4⟩, ⟨a5, a6⟩, a7, a8, a9, a10⟩ := h
  rw [List.length_append, List.length_singleton] at a3
  have ho : only [99] s (up s 99 0 W.length) := only.up (by decide)
  have hQ : mQ T n tk (up s 99 0 W.length) p C W b o := ⟨g.of' ho (by decide), ⟨⟨by rw [ho 97 (by decide)]; exact a1, a2.of (ho 96 (by decide))⟩, by rw [up_s], a4.pre.of (ho 98 (by decide))⟩, ⟨by rw [ho 100 (by decide)]; exact a5, by rw [ho 101 (by decide)]; exact a6⟩, by rw [ho 47 (by decide)]; exact a7, a8, ⟨a9.1, hb⟩, fun y hy => a10 y (List.mem_append_left _ hy)⟩
  obtain ⟨s', e1, e2, e3⟩ := qCode_ev hQ (by omega) x
  refine ⟨s', ?_, (ho.mono (by decide)).tr e2, e3⟩
  have e : up s 99 0 (W.length : Int) 98 W.length = x := by rw [up_k _ _ _ _ (by decide)]; exact a4.last
  unfold m_qDrops
  simp (disch := omega) only [gd_t, gd_T, gd_ok, not_false_eq_true, eq_self, bnd_r, bind_s, ite_t, ite_n, ite_T, ite_F, i32_id, a3, show ((W.length + 1 : Nat) : Int) - 1 = W.length by omega, up_s, e, e1]
theorem qIsOn_at {x y : Int} (h : mQ T n tk s p C (W ++ [y]) b o) (hl : W.length < 1690) (hx : 0 ≤ x ∧ x < 100) : m_qIsOn x s = some (b2i (decide (y = x)), s) := by
  obtain ⟨g, ⟨⟨a1, a2⟩, a3, a4⟩, ⟨a5, a6⟩, a7, a8, a9, a10⟩ := h
  rw [List.length_append, List.length_singleton] at a3
  have e := a4.last
  have hy := a10 y (List.mem_append_right _ (List.mem_singleton.mpr rfl))
  have e3 : ((W.length + 1 : Nat) : Int) - 1 = W.length := by omega
  unfold m_qIsOn
  by_cases c : y = x
  · rw [decide_eq_true c, b2i_t]
    simp (disch := omega) only [gd_t, gd_T, gd_ok, not_false_eq_true, eq_self, bnd_r, bind_s, ite_t, ite_n, ite_T, ite_F, i32_id, a3, e3, e]
  · rw [decide_eq_false c, b2i_f]
    simp (disch := omega) only [gd_t, gd_T, gd_ok, not_false_eq_true, eq_self, bnd_r, bind_s, ite_t, ite_n, ite_T, ite_F, i32_id, a3, e3, e]
theorem qIsOn_nil {x : Int} (h : mQ T n tk s p C [] b o) : m_qIsOn x s = some (0, s) := by
  obtain ⟨g, ⟨⟨a1, a2⟩, a3, a4⟩, -⟩ := h
  unfold m_qIsOn
  rw [List.length_nil] at a3
  simp (disch := omega) only [gd_t, gd_T, gd_ok, not_false_eq_true, eq_self, bnd_r, bind_s, ite_t, ite_n, ite_T, ite_F, i32_id, a3, show ((0 : Nat) : Int) = 0 from rfl]
theorem qOpens_f (h : mQ T n tk s p C W b o) (hl : W.length < 1690) (ho6 : o < 6) {x pl : Int} (hx : 0 ≤ x ∧ x < 100) : ∃ s', m_qOpens x pl s = some (0, s') ∧ only [98, 99, 100] s s' ∧ mQ T n tk s' p C (W ++ [x]) b (o + 1) := by
  have h5 := h.b5
  obtain ⟨g, ⟨⟨a1, a2⟩, a3, a4⟩, ⟨a5, a6⟩, a7, a8, a9, a10⟩ := h
  refine ⟨up (up (up s 100 0 (o + 1)) 98 W.length x) 99 0 (W.length + 1), ?_, ((only.up (by decide)).tr (only.up (by decide))).tr (only.up (by decide)), ?_⟩
  · have e1 : up s 100 0 (o + 1) 99 0 = W.length := by rw [up_k _ _ _ _ (by decide)]; exact a3
    have e2 : up (up s 100 0 (o + 1)) 98 W.length x 99 0 = W.length := by rw [up_k _ _ _ _ (by decide)]; exact e1
    unfold m_qOpens
    simp (disch := omega) only [gd_t, gd_T, gd_ok, not_false_eq_true, eq_self, bnd_r, bind_s, ite_t, ite_n, ite_T, ite_F, i32_id, h5, a5, e1, e2]
  · have ho : only [98, 99, 100] s (up (up (up s 100 0 (o + 1)) 98 W.length x) 99 0 (W.length + 1)) := ((only.up (by decide)).tr (only.up (by decide))).tr (only.up (by decide))
    refine ⟨g.of' ho (by decide), ⟨⟨by rw [ho 97 (by decide)]; exact a1, a2.of (ho 96 (by decide))⟩, by rw [up_s, List.length_append, List.length_singleton]; omega, ?_⟩, ⟨by rw [up_k _ _ _ _ (by decide), up_k _ _ _ _ (by decide), up_s], by rw [ho 101 (by decide)]; exact a6⟩, by rw [ho 47 (by decide)]; exact a7, by omega, ⟨a9.1, by rw [List.length_append, List.length_singleton]; omega⟩, fun y hy => ?_⟩
    · have : hR (up s 100 0 (o + 1)) 98 W := a4.of (up_row (by decide))
      exact (this.snoc x).of (up_row (by decide))
    · rcases List.mem_append.mp hy with hy | hy
      · exact a10 y hy
      · rw [List.mem_singleton.mp hy]; exact hx
theorem qOpens_t (h : mQ T n tk s p C W b o) (ho6 : o = 6) {x pl : Int} : ∃ s', m_qOpens x pl s = some (0, s') ∧ mB 4 pl s s' := by
  have h5 := h.b5
  have a5 := h.2.2.1.1
  refine ⟨_, ?_, mB.up (ks := []) only.rf (by simp)⟩
  unfold m_qOpens
  simp (disch := omega) only [gd_t, gd_T, gd_ok, not_false_eq_true, eq_self, bnd_r, bind_s, ite_t, ite_n, ite_T, ite_F, i32_id, h5, a5, ho6, m_fail_ev h5]
/-- what waits for a part that has ended is told -/
theorem qEnds_go (k : MS → Option (Int × MS)) {W1 : List Int} (hs : (W1.length : Int) = b ∨ ∃ V t, W1 = V ++ [t] ∧ t < 60) : ∀ (rs : List Int) (fuel : Nat) (C : List Int) (o : Int) (s : MS), rs.length < fuel → (∀ y ∈ rs, 60 ≤ y) → (rs.length : Int) ≤ o → C.length + W1.length + rs.length < 1690 → mQ T n tk s p C (W1 ++ rs.reverse) b o → b ≤ W1.length → ∃ s', m_qEndsPart_L0 k fuel s = k s' ∧ only pks s s' ∧ mQ T n tk s' p (C ++ rs) W1 b (o - rs.length) := by
  intro rs
  induction rs with
  | nil =>
    intro fuel C o s hf hy hlo hl h hb
    obtain ⟨f, rfl⟩ : ∃ f, fuel = f + 1 := ⟨fuel - 1, by simp at hf; omega⟩
    have h5 := h.b5
    simp only [List.reverse_nil, List.append_nil, List.length_nil] at h hl
    refine ⟨s, ?_, only.rf, by simpa using h⟩
    obtain ⟨g, ⟨⟨a1, a2⟩, a3, a4⟩, ⟨a5, a6⟩, a7, a8, a9, a10⟩ := h
    rw [m_qEndsPart_L0]
    rcases hs with hs | ⟨V, t, rfl, ht⟩
    · simp (disch := omega) only [gd_t, gd_T, gd_ok, not_false_eq_true, eq_self, bnd_r, bind_s, ite_t, ite_n, ite_T, ite_F, i32_id, h5, a3, a6]
    · rw [List.length_append, List.length_singleton] at a3 hl hb
      have e := a4.last
      have hy := a10 t (List.mem_append_right _ (List.mem_singleton.mpr rfl))
      have e3 : ((V.length + 1 : Nat) : Int) - 1 = V.length := by omega
      by_cases c : ((V.length + 1 : Nat) : Int) ≤ b
      · simp (disch := omega) only [gd_t, gd_T, gd_ok, not_false_eq_true, eq_self, bnd_r, bind_s, ite_t, ite_n, ite_T, ite_F, i32_id, h5, a3, a6]
      · simp (disch := omega) only [gd_t, gd_T, gd_ok, not_false_eq_true, eq_self, bnd_r, bind_s, ite_t, ite_n, ite_T, ite_F, i32_id, h5, a3, a6, e3, e]
  | cons x rs ih =>
    intro fuel C o s hf hy hlo hl h hb
    obtain ⟨f, rfl⟩ : ∃ f, fuel = f + 1 := ⟨fuel - 1, by simp at hf; omega⟩
    have h5 := h.b5
    rw [List.reverse_cons, ← List.append_assoc] at h
    rw [List.length_cons] at hlo hl hf
    have hx := hy x List.mem_cons_self
    obtain ⟨g, ⟨⟨a1, a2⟩, a3, a4⟩, ⟨a5, a6⟩, a7, a8, a9, a10⟩ := id h
    have hlen : (W1 ++ rs.reverse).length = W1.length + rs.length := by simp
    have a3' := a3
    rw [List.length_append, List.length_singleton, hlen] at a3'
    have e := a4.last
    rw [hlen] at e
    have hx2 := a10 x (List.mem_append_right _ (List.mem_singleton.mpr rfl))
    have e3 : ((W1.length + rs.length + 1 : Nat) : Int) - 1 = ((W1.length + rs.length : Nat) : Int) := by omega
    have ho : only [100] s (up s 100 0 (o - 1)) := only.up (by decide)
    have hQ : mQ T n tk (up s 100 0 (o - 1)) p C (W1 ++ rs.reverse ++ [x]) b (o - 1) := ⟨g.of' ho (by decide), ⟨⟨by rw [ho 97 (by decide)]; exact a1, a2.of (ho 96 (by decide))⟩, by rw [ho 99 (by decide)]; exact a3, a4.of (ho 98 (by decide))⟩, ⟨by rw [up_s], by rw [ho 101 (by decide)]; exact a6⟩, by rw [ho 47 (by decide)]; exact a7, by omega, a9, a10⟩
    obtain ⟨s1, d1, d2, d3⟩ := qDrops_ev hQ (by rw [hlen]; omega) (by rw [hlen]; omega)
    obtain ⟨s', f1, f2, f3⟩ := ih f (C ++ [x]) (o - 1) s1 (by omega) (fun y hy' => hy y (List.mem_cons_of_mem _ hy')) (by omega) (by rw [List.length_append, List.length_singleton]; omega) d3 hb
    refine ⟨s', ?_, ((ho.mono (by decide)).tr d2).tr f2, ?_⟩
    · rw [m_qEndsPart_L0]
      have hc : ¬ ((W1.length + rs.length + 1 : Nat) : Int) ≤ b := by omega
      simp (disch := omega) only [gd_t, gd_T, gd_ok, not_false_eq_true, eq_self, bnd_r, bind_s, ite_t, ite_n, ite_T, ite_F, i32_id, h5, a3', a6, e3, e, a5, d1, f1]
    · rw [List.append_assoc, List.singleton_append] at f3
      rw [List.length_cons, show o - ((rs.length + 1 : Nat) : Int) = o - 1 - rs.length by omega]
      exact f3
theorem qEnds_ev {W1 rs : List Int} (hs : (W1.length : Int) = b ∨ ∃ V t, W1 = V ++ [t] ∧ t < 60) (hy : ∀ y ∈ rs, 60 ≤ y) (hlo : (rs.length : Int) ≤ o) (hl : C.length + W1.length + rs.length < 1690) (h : mQ T n tk s p C (W1 ++ rs.reverse) b o) (hb : b ≤ W1.length) : ∃ s', m_qEndsPart s = some (0, s') ∧ only pks s s' ∧ mQ T n tk s' p (C ++ rs) W1 b (o - rs.length) := by
  unfold m_qEndsPart
  exact qEnds_go _ hs rs FU C o s (by have := FU_ge; omega) hy hlo hl h hb
/-- brackets that wait -/
def brk (y : Int) : Prop := 20 ≤ y ∧ y ≤ 24
theorem qIsBracket_ev {y : Int} (s : MS) (h : 0 ≤ y ∧ y < 100) : (brk y → m_qIsBracket y s = some (1, s)) ∧ (¬ brk y → m_qIsBracket y s = some (0, s)) := by
  unfold brk m_qIsBracket
  constructor
  · intro c; simp (disch := omega) only [gd_t, gd_T, gd_ok, not_false_eq_true, eq_self, bnd_r, bind_s, ite_t, ite_n, ite_T, ite_F, i32_id]
  · intro c
    by_cases c1 : y < 20
    · simp (disch := omega) only [gd_t, gd_T, gd_ok, not_false_eq_true, eq_self, bnd_r, bind_s, ite_t, ite_n, ite_T, ite_F, i32_id]
    · simp (disch := omega) only [gd_t, gd_T, gd_ok, not_false_eq_true, eq_self, bnd_r, bind_s, ite_t, ite_n, ite_T, ite_F, i32_id]
theorem qBr_go (k : Int → MS → Option (Int × MS)) (h : mQ T n tk s p C W b o) (hl : W.length < 1690) {j : Int} (hj : b - 1 ≤ j ∧ j < W.length) (hst : j < b ∨ ∃ y, W[j.toNat]? = some y ∧ brk y) : ∀ (d fuel : Nat) (x : Int), x = j + d → x < W.length → d < fuel → (∀ i : Nat, j < i → i ≤ x → ∃ y, W[i]? = some y ∧ ¬ brk y) → m_qBracket_L7 k fuel x s = k j s := by
  obtain ⟨g, ⟨⟨a1, a2⟩, a3, a4⟩, ⟨a5, a6⟩, a7, a8, a9, a10⟩ := h
  intro d
  induction d with
  | zero =>
    intro fuel x hx hxl hf hn
    obtain ⟨f, rfl⟩ : ∃ f, fuel = f + 1 := ⟨fuel - 1, by omega⟩
    have hxj : x = j := by omega
    subst hxj
    rw [m_qBracket_L7]
    by_cases c : x < b
    · simp (disch := omega) only [gd_t, gd_T, gd_ok, not_false_eq_true, eq_self, bnd_r, bind_s, ite_t, ite_n, ite_T, ite_F, i32_id, a6]
    · rcases hst with hst | ⟨y, h1, h2⟩
      · omega
      · have e := a4 _ _ h1
        rw [Int.toNat_of_nonneg (by omega)] at e
        have hy := a10 y (List.mem_of_getElem? h1)
        simp (disch := omega) only [gd_t, gd_T, gd_ok, not_false_eq_true, eq_self, bnd_r, bind_s, ite_t, ite_n, ite_T, ite_F, i32_id, a6, e, (qIsBracket_ev s hy).1 h2]
  | succ d ih =>
    intro fuel x hx hxl hf hn
    obtain ⟨f, rfl⟩ : ∃ f, fuel = f + 1 := ⟨fuel - 1, by omega⟩
    obtain ⟨y, h1, h2⟩ := hn x.toNat (by omega) (by omega)
    have e := a4 _ _ h1
    rw [Int.toNat_of_nonneg (by omega)] at e
    have hy := a10 y (List.mem_of_getElem? h1)
    rw [m_qBracket_L7]
    simp (disch := omega) only [gd_t, gd_T, gd_ok, not_false_eq_true, eq_self, bnd_r, bind_s, ite_t, ite_n, ite_T, ite_F, i32_id, a6, e, (qIsBracket_ev s hy).2 h2]
    exact ih f (x + -1) (by omega) (by omega) (by omega) (fun i h1 h2 => hn i h1 (by omega))
theorem qBracket_t {V ops : List Int} {br : Int} (h : mQ T n tk s p C (V ++ [br] ++ ops) b o) (hl : V.length + ops.length < 1680) (hb : b ≤ V.length) (hbr : brk br) (hops : ∀ y ∈ ops, ¬ brk y) : m_qBracket s = some (br, s) := by
  have hlen : (V ++ [br] ++ ops).length = V.length + 1 + ops.length := by simp; omega
  have hj : (V ++ [br] ++ ops)[((V.length : Nat) : Int).toNat]? = some br := by
    rw [Int.toNat_natCast, List.append_assoc, List.getElem?_append_right (Nat.le_refl _)]
    simp
  have go := fun k => qBr_go k h (by rw [hlen]; omega) (j := V.length) ⟨by omega, by rw [hlen]; omega⟩ (Or.inr ⟨br, hj, hbr⟩) ops.length FU (((V.length + 1 + ops.length : Nat) : Int) - 1) (by omega) (by rw [hlen]; omega) (by have := FU_ge; omega) (fun i h1 h2 => by
    have hi : i < (V ++ [br] ++ ops).length := by rw [hlen]; omega
    refine ⟨_, List.getElem?_eq_getElem hi, hops _ ?_⟩
    rw [List.getElem_append_right (by simp; omega)]
    exact List.getElem_mem _)
  obtain ⟨g, ⟨⟨a1, a2⟩, a3, a4⟩, ⟨a5, a6⟩, a7, a8, a9, a10⟩ := h
  rw [hlen] at a3
  have e := a4 _ _ hj
  rw [Int.toNat_natCast] at e
  unfold m_qBracket
  simp (disch := omega) only [gd_t, gd_T, gd_ok, not_false_eq_true, eq_self, bnd_r, bind_s, ite_t, ite_n, ite_T, ite_F, i32_id, a3, go, a6, e]
theorem qBracket_n {U ops : List Int} (h : mQ T n tk s p C (U ++ ops) b o) (hl : U.length + ops.length < 1680) (hb : (U.length : Int) = b) (hops : ∀ y ∈ ops, ¬ brk y) : m_qBracket s = some (-1, s) := by
  have hlen : (U ++ ops).length = U.length + ops.length := by simp
  obtain ⟨g, ⟨⟨a1, a2⟩, a3, a4⟩, ⟨a5, a6⟩, a7, a8, a9, a10⟩ := id h
  rw [hlen] at a3
  by_cases c0 : U.length + ops.length = 0
  · have e0 : b = 0 := by omega
    unfold m_qBracket
    obtain ⟨f, hf⟩ := FU_s
    rw [bnd_r, hf, m_qBracket_L7]
    simp (disch := omega) only [gd_t, gd_T, gd_ok, not_false_eq_true, eq_self, bnd_r, bind_s, ite_t, ite_n, ite_T, ite_F, i32_id, a3, a6, c0, e0, show ((0 : Nat) : Int) = 0 from rfl]
  · have go := fun k => qBr_go k h (by rw [hlen]; omega) (j := b - 1) ⟨by omega, by rw [hlen]; omega⟩ (Or.inl (by omega)) ops.length FU (((U.length + ops.length : Nat) : Int) - 1) (by omega) (by rw [hlen]; omega) (by have := FU_ge; omega) (fun i h1 h2 => by
      have hi : i < (U ++ ops).length := by rw [hlen]; omega
      refine ⟨_, List.getElem?_eq_getElem hi, hops _ ?_⟩
      rw [List.getElem_append_right (by omega)]
      exact List.getElem_mem _)
    unfold m_qBracket
    simp (disch := omega) only [gd_t, gd_T, gd_ok, not_false_eq_true, eq_self, bnd_r, bind_s, ite_t, ite_n, ite_T, ite_F, i32_id, a3, go, a6]
theorem qDropsTo_go (k : MS → Option (Int × MS)) {W1 : List Int} (hs : (W1.length : Int) = b ∨ ∃ V t, W1 = V ++ [t] ∧ brk t ∧ b ≤ V.length) : ∀ (rs : List Int) (fuel : Nat) (C : List Int) (s : MS), rs.length < fuel → (∀ y ∈ rs, ¬ brk y) → C.length + W1.length + rs.length < 1690 → mQ T n tk s p C (W1 ++ rs.reverse) b o → b ≤ W1.length → ∃ s', m_qDropsToBracket_L0 k fuel s = k s' ∧ only pks s s' ∧ mQ T n tk s' p (C ++ rs) W1 b o := by
  intro rs
  induction rs with
  | nil =>
    intro fuel C s hf hy hl h hb
    obtain ⟨f, rfl⟩ : ∃ f, fuel = f + 1 := ⟨fuel - 1, by simp at hf; omega⟩
    simp only [List.reverse_nil, List.append_nil, List.length_nil] at h hl
    refine ⟨s, ?_, only.rf, by simpa using h⟩
    obtain ⟨g, ⟨⟨a1, a2⟩, a3, a4⟩, ⟨a5, a6⟩, a7, a8, a9, a10⟩ := h
    rw [m_qDropsToBracket_L0]
    rcases hs with hs | ⟨V, t, rfl, ht, hbv⟩
    · simp (disch := omega) only [gd_t, gd_T, gd_ok, not_false_eq_true, eq_self, bnd_r, bind_s, ite_t, ite_n, ite_T, ite_F, i32_id, a3, a6]
    · rw [List.length_append, List.length_singleton] at a3 hl hb
      have e := a4.last
      have hy := a10 t (List.mem_append_right _ (List.mem_singleton.mpr rfl))
      have e3 : ((V.length + 1 : Nat) : Int) - 1 = V.length := by omega
      simp (disch := omega) only [gd_t, gd_T, gd_ok, not_false_eq_true, eq_self, bnd_r, bind_s, ite_t, ite_n, ite_T, ite_F, i32_id, a3, a6, e3, e, (qIsBracket_ev s hy).1 ht]
  | cons x rs ih =>
    intro fuel C s hf hy hl h hb
    obtain ⟨f, rfl⟩ : ∃ f, fuel = f + 1 := ⟨fuel - 1, by simp at hf; omega⟩
    rw [List.reverse_cons, ← List.append_assoc] at h
    rw [List.length_cons] at hl hf
    have hx := hy x List.mem_cons_self
    obtain ⟨g, ⟨⟨a1, a2⟩, a3, a4⟩, ⟨a5, a6⟩, a7, a8, a9, a10⟩ := id h
    have hlen : (W1 ++ rs.reverse).length = W1.length + rs.length := by simp
    rw [List.length_append, List.length_singleton, hlen] at a3
    have e := a4.last
    rw [hlen] at e
    have hx2 := a10 x (List.mem_append_right _ (List.mem_singleton.mpr rfl))
    have e3 : ((W1.length + rs.length + 1 : Nat) : Int) - 1 = ((W1.length + rs.length : Nat) : Int) := by omega
    obtain ⟨s1, d1, d2, d3⟩ := qDrops_ev h (by rw [hlen]; omega) (by rw [hlen]; omega)
    obtain ⟨s', f1, f2, f3⟩ := ih f (C ++ [x]) s1 (by omega) (fun y hy' => hy y (List.mem_cons_of_mem _ hy')) (by rw [List.length_append, List.length_singleton]; omega) d3 hb
    refine ⟨s', ?_, d2.tr f2, ?_⟩
    · rw [m_qDropsToBracket_L0]
      simp (disch := omega) only [gd_t, gd_T, gd_ok, not_false_eq_true, eq_self, bnd_r, bind_s, ite_t, ite_n, ite_T, ite_F, i32_id, a3, a6, e3, e, (qIsBracket_ev s hx2).2 hx, d1, f1]
    · rw [List.append_assoc, List.singleton_append] at f3
      exact f3
theorem qDropsTo_ev {W1 rs : List Int} (hs : (W1.length : Int) = b ∨ ∃ V t, W1 = V ++ [t] ∧ brk t ∧ b ≤ V.length) (hy : ∀ y ∈ rs, ¬ brk y) (hl : C.length + W1.length + rs.length < 1690) (h : mQ T n tk s p C (W1 ++ rs.reverse) b o) (hb : b ≤ W1.length) : ∃ s', m_qDropsToBracket s = some (0, s') ∧ only pks s s' ∧ mQ T n tk s' p (C ++ rs) W1 b o := by
  unfold m_qDropsToBracket
  exact qDropsTo_go _ hs rs FU C s (by have := FU_ge; omega) hy hl h hb
/-- which word it is -/
def wIx (tk : Int) (w : List Int) : Int := if w = wo 85 then 0 else if w = wo 86 then 1 else if w = wo 87 then 2 else if tk = 0 ∧ w = wo 88 then 3 else if w = wo 89 then 4 else if w = wo 90 then 5 else if w = wo 91 then 6 else if w = wo 92 then 7 else if w = wo 93 then 8 else if w = wo 94 then 9 else if w = wo 95 then 10 else -1
theorem qWordHere_ev (h : mG T n s p) (hp : rn qB T n p = p) (c1 : qL (bA T n p) = true) (c2 : pd T n p = false) (ht : s 47 0 = tk) (htk : tk = 0 ∨ tk = 1) : m_qWordHere s = some (wIx tk (wrd T n p), s) := by
  unfold m_qWordHere wIx
  simp only [m_isHere_wd h hp c1 c2 (a := 85) (by decide), m_isHere_wd h hp c1 c2 (a := 86) (by decide), m_isHere_wd h hp c1 c2 (a := 87) (by decide), m_isHere_wd h hp c1 c2 (a := 88) (by decide), m_isHere_wd h hp c1 c2 (a := 89) (by decide), m_isHere_wd h hp c1 c2 (a := 90) (by decide), m_isHere_wd h hp c1 c2 (a := 91) (by decide), m_isHere_wd h hp c1 c2 (a := 92) (by decide), m_isHere_wd h hp c1 c2 (a := 93) (by decide), m_isHere_wd h hp c1 c2 (a := 94) (by decide), m_isHere_wd h hp c1 c2 (a := 95) (by decide), bind_s, bnd_r, b2i_d, ht]
  have z0 : i32 0 = 0 := by decide
  have z1 : (i32 1 = 0) = False := by decide
  have y1 : ((1 : Int) = 0) = False := by decide
  rcases htk with rfl | rfl
  · by_cases d85 : wrd T n p = wo 85
    · simp only [eq_self, eq_true d85, z0, z1, y1, not_true_eq_false, not_false_eq_true, if_true, if_false, true_and, false_and, and_true, and_false]
    by_cases d86 : wrd T n p = wo 86
    · simp only [eq_false d85, eq_self, eq_true d86, z0, z1, y1, not_true_eq_false, not_false_eq_true, if_true, if_false, true_and, false_and, and_true, and_false]
    by_cases d87 : wrd T n p = wo 87
    · simp only [eq_false d85, eq_false d86, eq_self, eq_true d87, z0, z1, y1, not_true_eq_false, not_false_eq_true, if_true, if_false, true_and, false_and, and_true, and_false]
    by_cases d88 : wrd T n p = wo 88
    · simp only [eq_false d85, eq_false d86, eq_false d87, eq_self, eq_true d88, z0, z1, y1, not_true_eq_false, not_false_eq_true, if_true, if_false, true_and, false_and, and_true, and_false]
    by_cases d89 : wrd T n p = wo 89
    · simp only [eq_false d85, eq_false d86, eq_false d87, eq_false d88, eq_self, eq_true d89, z0, z1, y1, not_true_eq_false, not_false_eq_true, if_true, if_false, true_and, false_and, and_true, and_false]
    by_cases d90 : wrd T n p = wo 90
    · simp only [eq_false d85, eq_false d86, eq_false d87, eq_false d88, eq_false d89, eq_self, eq_true d90, z0, z1, y1, not_true_eq_false, not_false_eq_true, if_true, if_false, true_and, false_and, and_true, and_false]
    by_cases d91 : wrd T n p = wo 91
    · simp only [eq_false d85, eq_false d86, eq_false d87, eq_false d88, eq_false d89, eq_false d90, eq_self, eq_true d91, z0, z1, y1, not_true_eq_false, not_false_eq_true, if_true, if_false, true_and, false_and, and_true, and_false]
    by_cases d92 : wrd T n p = wo 92
    · simp only [eq_false d85, eq_false d86, eq_false d87, eq_false d88, eq_false d89, eq_false d90, eq_false d91, eq_self, eq_true d92, z0, z1, y1, not_true_eq_false, not_false_eq_true, if_true, if_false, true_and, false_and, and_true, and_false]
    by_cases d93 : wrd T n p = wo 93
    · simp only [eq_false d85, eq_false d86, eq_false d87, eq_false d88, eq_false d89, eq_false d90, eq_false d91, eq_false d92, eq_self, eq_true d93, z0, z1, y1, not_true_eq_false, not_false_eq_true, if_true, if_false, true_and, false_and, and_true, and_false]
    by_cases d94 : wrd T n p = wo 94
    · simp only [eq_false d85, eq_false d86, eq_false d87, eq_false d88, eq_false d89, eq_false d90, eq_false d91, eq_false d92, eq_false d93, eq_self, eq_true d94, z0, z1, y1, not_true_eq_false, not_false_eq_true, if_true, if_false, true_and, false_and, and_true, and_false]
    by_cases d95 : wrd T n p = wo 95
    · simp only [eq_false d85, eq_false d86, eq_false d87, eq_false d88, eq_false d89, eq_false d90, eq_false d91, eq_false d92, eq_false d93, eq_false d94, eq_self, eq_true d95, z0, z1, y1, not_true_eq_false, not_false_eq_true, if_true, if_false, true_and, false_and, and_true, and_false]
    simp only [eq_false d85, eq_false d86, eq_false d87, eq_false d88, eq_false d89, eq_false d90, eq_false d91, eq_false d92, eq_false d93, eq_false d94, eq_false d95, z0, z1, y1, not_true_eq_false, not_false_eq_true, if_true, if_false, true_and, false_and, and_true, and_false]
  · by_cases d85 : wrd T n p = wo 85
    · simp only [eq_self, eq_true d85, z0, z1, y1, not_true_eq_false, not_false_eq_true, if_true, if_false, true_and, false_and, and_true, and_false]
    by_cases d86 : wrd T n p = wo 86
    · simp only [eq_false d85, eq_self, eq_true d86, z0, z1, y1, not_true_eq_false, not_false_eq_true, if_true, if_false, true_and, false_and, and_true, and_false]
    by_cases d87 : wrd T n p = wo 87
    · simp only [eq_false d85, eq_false d86, eq_self, eq_true d87, z0, z1, y1, not_true_eq_false, not_false_eq_true, if_true, if_false, true_and, false_and, and_true, and_false]
    by_cases d88 : wrd T n p = wo 88
    · have e88 := d88
      simp only [eq_false d85, eq_false d86, eq_false d87, z0, z1, y1, not_true_eq_false, not_false_eq_true, if_true, if_false, true_and, false_and]
      rw [d88]
      rfl
    by_cases d89 : wrd T n p = wo 89
    · simp only [eq_false d85, eq_false d86, eq_false d87, eq_false d88, eq_self, eq_true d89, z0, z1, y1, not_true_eq_false, not_false_eq_true, if_true, if_false, true_and, false_and, and_true, and_false]
    by_cases d90 : wrd T n p = wo 90
    · simp only [eq_false d85, eq_false d86, eq_false d87, eq_false d88, eq_false d89, eq_self, eq_true d90, z0, z1, y1, not_true_eq_false, not_false_eq_true, if_true, if_false, true_and, false_and, and_true, and_false]
    by_cases d91 : wrd T n p = wo 91
    · simp only [eq_false d85, eq_false d86, eq_false d87, eq_false d88, eq_false d89, eq_false d90, eq_self, eq_true d91, z0, z1, y1, not_true_eq_false, not_false_eq_true, if_true, if_false, true_and, false_and, and_true, and_false]
    by_cases d92 : wrd T n p = wo 92
    · simp only [eq_false d85, eq_false d86, eq_false d87, eq_false d88, eq_false d89, eq_false d90, eq_false d91, eq_self, eq_true d92, z0, z1, y1, not_true_eq_false, not_false_eq_true, if_true, if_false, true_and, false_and, and_true, and_false]
    by_cases d93 : wrd T n p = wo 93
    · simp only [eq_false d85, eq_false d86, eq_false d87, eq_false d88, eq_false d89, eq_false d90, eq_false d91, eq_false d92, eq_self, eq_true d93, z0, z1, y1, not_true_eq_false, not_false_eq_true, if_true, if_false, true_and, false_and, and_true, and_false]
    by_cases d94 : wrd T n p = wo 94
    · simp only [eq_false d85, eq_false d86, eq_false d87, eq_false d88, eq_false d89, eq_false d90, eq_false d91, eq_false d92, eq_false d93, eq_self, eq_true d94, z0, z1, y1, not_true_eq_false, not_false_eq_true, if_true, if_false, true_and, false_and, and_true, and_false]
    by_cases d95 : wrd T n p = wo 95
    · simp only [eq_false d85, eq_false d86, eq_false d87, eq_false d88, eq_false d89, eq_false d90, eq_false d91, eq_false d92, eq_false d93, eq_false d94, eq_self, eq_true d95, z0, z1, y1, not_true_eq_false, not_false_eq_true, if_true, if_false, true_and, false_and, and_true, and_false]
    simp only [eq_false d85, eq_false d86, eq_false d87, eq_false d88, eq_false d89, eq_false d90, eq_false d91, eq_false d92, eq_false d93, eq_false d94, eq_false d95, z0, z1, y1, not_true_eq_false, not_false_eq_true, if_true, if_false, true_and, false_and, and_true, and_false]
theorem qWordHere_no (h : mG T n s p) (hp : rn qB T n p = p) (hc : ¬ (qL (bA T n p) = true ∧ pd T n p = false)) : m_qWordHere s = some (-1, s) := by
  have hno : ∀ a ∈ wfs, m_isHere a s = some (0, s) := fun a ha => by
    rw [m_isHere_id h hp ha]
    have : hereW T n p (wo a) = false := by
      unfold hereW
      cases c1 : qL (bA T n p) with
      | false => rfl
      | true =>
        cases c2 : pd T n p with
        | true => rfl
        | false => exact absurd ⟨c1, c2⟩ hc
    rw [this, b2i_f]
  unfold m_qWordHere
  have z0 : (i32 0 = 0) = True := by decide
  simp only [hno 85 (by decide), hno 86 (by decide), hno 87 (by decide), hno 88 (by decide), hno 89 (by decide), hno 90 (by decide), hno 91 (by decide), hno 92 (by decide), hno 93 (by decide), hno 94 (by decide), hno 95 (by decide), bind_s, bnd_r, z0, if_true, ite_self]
theorem wIx_b (tk : Int) (w : List Int) : -1 ≤ wIx tk w ∧ wIx tk w ≤ 10 := by
  unfold wIx
  repeat' split
  all_goals omega
theorem isAllowed_ev {k : Int} (ht : s 47 0 = tk) (htk : tk = 0 ∨ tk = 1) (hk : 0 ≤ k ∧ k ≤ 10) : m_isAllowed k s = some (b2i (decide (if tk = 0 then k < 5 else k = 0 ∨ 3 < k)), s) := by
  unfold m_isAllowed
  rcases htk with rfl | rfl
  · by_cases c : k < 5
    · rw [decide_eq_true (by rw [if_pos rfl]; exact c), b2i_t]; simp (disch := omega) only [gd_t, gd_T, gd_ok, not_false_eq_true, eq_self, bnd_r, bind_s, ite_t, ite_n, ite_T, ite_F, i32_id, ht]
    · rw [decide_eq_false (by rw [if_pos rfl]; exact c), b2i_f]; simp (disch := omega) only [gd_t, gd_T, gd_ok, not_false_eq_true, eq_self, bnd_r, bind_s, ite_t, ite_n, ite_T, ite_F, i32_id, ht]
  · by_cases c : k = 0 ∨ 3 < k
    · rw [decide_eq_true (by rw [if_neg (by decide)]; exact c), b2i_t]
      rcases c with c | c
      · simp (disch := omega) only [gd_t, gd_T, gd_ok, not_false_eq_true, eq_self, bnd_r, bind_s, ite_t, ite_n, ite_T, ite_F, i32_id, ht, c]
      · simp (disch := omega) only [gd_t, gd_T, gd_ok, not_false_eq_true, eq_self, bnd_r, bind_s, ite_t, ite_n, ite_T, ite_F, i32_id, ht]
    · rw [decide_eq_false (by rw [if_neg (by decide)]; exact c), b2i_f]; simp (disch := omega) only [gd_t, gd_T, gd_ok, not_false_eq_true, eq_self, bnd_r, bind_s, ite_t, ite_n, ite_T, ite_F, i32_id, ht]
theorem qWordOf_ev {lo hi k : Int} (hw : m_qWordHere s = some (k, s)) (hk : -1 ≤ k ∧ k ≤ 10) (hlo : 0 ≤ lo ∧ lo < 20) (hhi : 0 ≤ hi ∧ hi < 20) (ht : s 47 0 = tk) (htk : tk = 0 ∨ tk = 1) : m_qWordOf lo hi s = some (if lo ≤ k ∧ k < hi ∧ (if tk = 0 then k < 5 else k = 0 ∨ 3 < k) then k else -1, s) := by
  unfold m_qWordOf
  by_cases c1 : k < lo
  · rw [if_neg (by omega)]; simp (disch := omega) only [gd_t, gd_T, gd_ok, not_false_eq_true, eq_self, bnd_r, bind_s, ite_t, ite_n, ite_T, ite_F, i32_id, hw]
  · by_cases c2 : hi ≤ k
    · rw [if_neg (by omega)]; simp (disch := omega) only [gd_t, gd_T, gd_ok, not_false_eq_true, eq_self, bnd_r, bind_s, ite_t, ite_n, ite_T, ite_F, i32_id, hw]
    · have ha := isAllowed_ev (s := s) (k := k) ht htk (by omega)
      by_cases c3 : (if tk = 0 then k < 5 else k = 0 ∨ 3 < k)
      · rw [if_pos ⟨by omega, by omega, c3⟩]
        rw [decide_eq_true c3, b2i_t] at ha
        simp (disch := omega) only [gd_t, gd_T, gd_ok, not_false_eq_true, eq_self, bnd_r, bind_s, ite_t, ite_n, ite_T, ite_F, i32_id, hw, ha]
      · rw [if_neg (fun h => c3 h.2.2)]
        rw [decide_eq_false c3, b2i_f] at ha
        simp (disch := omega) only [gd_t, gd_T, gd_ok, not_false_eq_true, eq_self, bnd_r, bind_s, ite_t, ite_n, ite_T, ite_F, i32_id, hw, ha]
theorem qAsksWord_ev (h : mG T n s p) {k : Int} (hk : 0 ≤ k ∧ k ≤ 10) (hw : hereW T n (rn qB T n p) (wo (85 + k.toNat)) = true) : ∃ s', m_qAsksWord k s = some (0, s') ∧ only [2, 4] s s' ∧ mG T n s' (rn qL T n (rn qB T n p)) := by
  rcases (show k = 0 ∨ k = 1 ∨ k = 2 ∨ k = 3 ∨ k = 4 ∨ k = 5 ∨ k = 6 ∨ k = 7 ∨ k = 8 ∨ k = 9 ∨ k = 10 by omega) with rfl | rfl | rfl | rfl | rfl | rfl | rfl | rfl | rfl | rfl | rfl
  · obtain ⟨s1, e1, e2, e3⟩ := m_asks_t h (a := 85) (by decide) hw
    refine ⟨s1, ?_, e2, e3⟩
    unfold m_qAsksWord
    simp (disch := omega) only [gd_t, gd_T, gd_ok, not_false_eq_true, eq_self, bnd_r, bind_s, ite_t, ite_n, ite_T, ite_F, i32_id, e1]
  · obtain ⟨s1, e1, e2, e3⟩ := m_asks_t h (a := 86) (by decide) hw
    refine ⟨s1, ?_, e2, e3⟩
    unfold m_qAsksWord
    simp (disch := omega) only [gd_t, gd_T, gd_ok, not_false_eq_true, eq_self, bnd_r, bind_s, ite_t, ite_n, ite_T, ite_F, i32_id, e1]
  · obtain ⟨s1, e1, e2, e3⟩ := m_asks_t h (a := 87) (by decide) hw
    refine ⟨s1, ?_, e2, e3⟩
    unfold m_qAsksWord
    simp (disch := omega) only [gd_t, gd_T, gd_ok, not_false_eq_true, eq_self, bnd_r, bind_s, ite_t, ite_n, ite_T, ite_F, i32_id, e1]
  · obtain ⟨s1, e1, e2, e3⟩ := m_asks_t h (a := 88) (by decide) hw
    refine ⟨s1, ?_, e2, e3⟩
    unfold m_qAsksWord
    simp (disch := omega) only [gd_t, gd_T, gd_ok, not_false_eq_true, eq_self, bnd_r, bind_s, ite_t, ite_n, ite_T, ite_F, i32_id, e1]
  · obtain ⟨s1, e1, e2, e3⟩ := m_asks_t h (a := 89) (by decide) hw
    refine ⟨s1, ?_, e2, e3⟩
    unfold m_qAsksWord
    simp (disch := omega) only [gd_t, gd_T, gd_ok, not_false_eq_true, eq_self, bnd_r, bind_s, ite_t, ite_n, ite_T, ite_F, i32_id, e1]
  · obtain ⟨s1, e1, e2, e3⟩ := m_asks_t h (a := 90) (by decide) hw
    refine ⟨s1, ?_, e2, e3⟩
    unfold m_qAsksWord
    simp (disch := omega) only [gd_t, gd_T, gd_ok, not_false_eq_true, eq_self, bnd_r, bind_s, ite_t, ite_n, ite_T, ite_F, i32_id, e1]
  · obtain ⟨s1, e1, e2, e3⟩ := m_asks_t h (a := 91) (by decide) hw
    refine ⟨s1, ?_, e2, e3⟩
    unfold m_qAsksWord
    simp (disch := omega) only [gd_t, gd_T, gd_ok, not_false_eq_true, eq_self, bnd_r, bind_s, ite_t, ite_n, ite_T, ite_F, i32_id, e1]
  · obtain ⟨s1, e1, e2, e3⟩ := m_asks_t h (a := 92) (by decide) hw
    refine ⟨s1, ?_, e2, e3⟩
    unfold m_qAsksWord
    simp (disch := omega) only [gd_t, gd_T, gd_ok, not_false_eq_true, eq_self, bnd_r, bind_s, ite_t, ite_n, ite_T, ite_F, i32_id, e1]
  · obtain ⟨s1, e1, e2, e3⟩ := m_asks_t h (a := 93) (by decide) hw
    refine ⟨s1, ?_, e2, e3⟩
    unfold m_qAsksWord
    simp (disch := omega) only [gd_t, gd_T, gd_ok, not_false_eq_true, eq_self, bnd_r, bind_s, ite_t, ite_n, ite_T, ite_F, i32_id, e1]
  · obtain ⟨s1, e1, e2, e3⟩ := m_asks_t h (a := 94) (by decide) hw
    refine ⟨s1, ?_, e2, e3⟩
    unfold m_qAsksWord
    simp (disch := omega) only [gd_t, gd_T, gd_ok, not_false_eq_true, eq_self, bnd_r, bind_s, ite_t, ite_n, ite_T, ite_F, i32_id, e1]
  · obtain ⟨s1, e1, e2, e3⟩ := m_asks_t h (a := 95) (by decide) hw
    refine ⟨s1, ?_, e2, e3⟩
    unfold m_qAsksWord
    simp (disch := omega) only [gd_t, gd_T, gd_ok, not_false_eq_true, eq_self, bnd_r, bind_s, ite_t, ite_n, ite_T, ite_F, i32_id, e1]
end
