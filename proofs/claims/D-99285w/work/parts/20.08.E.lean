set_option maxRecDepth 100000
/-! the system: sums and tests that are read, evaluated -/
theorem stc_dyn {c : Int} (h : dyn c) : (stc c).1 = 0 := by
  unfold stc
  rcases h with h | h
  · rcases (show c = 1 ∨ c = 2 ∨ c = 3 ∨ c = 4 ∨ c = 5 by omega) with rfl | rfl | rfl | rfl | rfl <;> rfl
  · rw [if_neg (by omega), if_neg (by omega), if_neg (by omega), if_neg (by omega), if_neg (by omega)]
theorem ln_dyn {τ : XS} {c : Int} (h : dyn c) : ln true τ c = τ c (-2) := by
  unfold ln
  rw [if_neg (by rw [stc_dyn h]; simp)]
theorem tgd {τ : XS} {c : Int} {t : Nat} (h : dyn c) (h2 : τ c (-1) = t) : tg true τ c = t := by rw [tg_dyn h, h2]; simp
theorem ishr_0 (a : Int) : ishr a 0 = i32 a := by
  unfold ishr
  rw [show (Int32.ofInt 0 &&& 31) = 0 by decide, Int32.shiftRight_zero, toInt_ofInt32]
/-- a list that holds the cells es -/
def lstX (τ : XS) (S : Int → Prop) (lc : Int) (es : List Int) : Prop := (S lc ∧ τ lc (-1) = 21) ∧ (S (τ lc 1) ∧ τ (τ lc 1) (-1) = 110) ∧ τ lc 2 = es.length ∧ (es.length : Int) ≤ τ (τ lc 1) (-2) ∧ τ (τ lc 1) (-2) ≤ 900000 ∧ ∀ (i : Nat) (x : Int), es[i]? = some x → τ (τ lc 1) i = x ∧ S x
/-- a builder that holds the signs cs -/
def sbdX (τ : XS) (S : Int → Prop) (sc : Int) (cs : List Int) : Prop := (S sc ∧ τ sc (-1) = 23) ∧ τ sc 1 = 0 ∧ (S (τ sc 0) ∧ τ (τ sc 0) (-1) = 102) ∧ τ sc 3 = cs.length ∧ (cs.length : Int) ≤ τ (τ sc 0) (-2) ∧ τ (τ sc 0) (-2) ≤ 1000000 ∧ ∀ (i : Nat) (x : Int), cs[i]? = some x → τ (τ sc 0) i = x ∧ 0 ≤ x ∧ x < 128
theorem get_ev {τ : XS} {S : Int → Prop} (hS : ∀ x, S x → dyn x) {lc : Int} {es : List Int} (h : lstX τ S lc es) {i : Nat} {x : Int} (hi : es[i]? = some x) : j2_get true lc i τ = some (x, τ) := by
  obtain ⟨⟨a1, a2⟩, ⟨b1, b2⟩, h3, h4, h5, h6⟩ := h
  have hl := (List.getElem?_eq_some_iff.mp hi).1
  obtain ⟨e1, e2⟩ := h6 i x hi
  have a1 := hS _ a1
  have b1 := hS _ b1
  have e2 := hS _ e2
  unfold j2_get j2_elementData j11_checkIndex j8_checkIndex
  rw [gd_t (tgd a1 a2), h3]
  simp (disch := omega) only [gd_t, gd_T, gd_ok, not_false_eq_true, eq_self, bnd_r, bind_s, ite_t, ite_n, ite_T, ite_F, i32_id]
  rw [gd_t (tgd a1 a2), gd_t (tgd a1 a2), gd_t (dyn_ne b1), gd_t (tgd b1 b2), ln_dyn b1]
  simp (disch := omega) only [gd_t, gd_T, gd_ok, not_false_eq_true, eq_self, bnd_r, bind_s, ite_t, ite_n, ite_T, ite_F, i32_id, e1, gd_t (dyn_ne e2)]
theorem size_ev {τ : XS} {S : Int → Prop} (hS : ∀ x, S x → dyn x) {lc : Int} {es : List Int} (h : lstX τ S lc es) : j2_size true lc τ = some ((es.length : Int), τ) := by
  obtain ⟨⟨a1, a2⟩, -, h3, -⟩ := h
  have a1 := hS _ a1
  unfold j2_size
  rw [gd_t (tgd a1 a2), h3]
theorem and255 {x : Int} (h : 0 ≤ x ∧ x < 128) : iand x 255 = x := fin1 (P := fun x => iand x 255 = x) (by decide +kernel) h
theorem charAt_ev {τ : XS} {S : Int → Prop} (hS : ∀ x, S x → dyn x) {sc : Int} {cs : List Int} (h : sbdX τ S sc cs) {i : Nat} {x : Int} (hi : cs[i]? = some x) : j15_charAt true sc i τ = some (x, τ) := by
  obtain ⟨⟨a1, a2⟩, a3, ⟨b1, b2⟩, h3, h4, h5, h6⟩ := h
  have hl := (List.getElem?_eq_some_iff.mp hi).1
  obtain ⟨e1, e2⟩ := h6 i x hi
  have a1 := hS _ a1
  have b1 := hS _ b1
  have t1 := tgd (t := 23) a1 a2
  have t2 := tgd (t := 102) b1 b2
  have hu : u16 x = x := by unfold u16; omega
  unfold j15_charAt j14_charAt j12_min j6_checkIndex j8_checkIndex
  simp (disch := omega) only [gd_t, gd_T, gd_ok, not_false_eq_true, eq_self, bnd_r, bind_s, ite_t, ite_n, ite_T, ite_F, i32_id, t1, dyn_nf b1, t2, h3, a3, ishr_0, ln_dyn b1, e1, and255 e2, hu]
theorem i64_0 : i64 0 = 0 := by decide
theorem held_ev {v : Int} (τ : XS) (h : -1000000000000000000 ≤ v ∧ v ≤ 1000000000000000000) : x0_held v τ = some (clp v, τ) := by
  unfold x0_held j12_min_2 j12_max_2 clp
  by_cases c : v < 1000000
  · simp (disch := omega) only [gd_t, gd_T, gd_ok, not_false_eq_true, eq_self, bnd_r, bind_s, ite_t, ite_n, ite_T, ite_F, i32_id, i64_id]
    by_cases c2 : -1000000 < v
    · simp (disch := omega) only [gd_t, gd_T, gd_ok, not_false_eq_true, eq_self, bnd_r, bind_s, ite_t, ite_n, ite_T, ite_F, i32_id, i64_id]
    · by_cases c3 : v < -1000000
      · simp (disch := omega) only [gd_t, gd_T, gd_ok, not_false_eq_true, eq_self, bnd_r, bind_s, ite_t, ite_n, ite_T, ite_F, i32_id, i64_id]
      · have : v = -1000000 := by omega
        subst this
        simp (disch := omega) only [gd_t, gd_T, gd_ok, not_false_eq_true, eq_self, bnd_r, bind_s, ite_t, ite_n, ite_T, ite_F, i32_id, i64_id]
  · simp (disch := omega) only [gd_t, gd_T, gd_ok, not_false_eq_true, eq_self, bnd_r, bind_s, ite_t, ite_n, ite_T, ite_F, i32_id, i64_id]
    by_cases c2 : 1000000 < v
    · simp (disch := omega) only [gd_t, gd_T, gd_ok, not_false_eq_true, eq_self, bnd_r, bind_s, ite_t, ite_n, ite_T, ite_F, i32_id]
    · have : v = 1000000 := by omega
      subst this
      simp (disch := omega) only [gd_t, gd_T, gd_ok, not_false_eq_true, eq_self, bnd_r, bind_s, ite_t, ite_n, ite_T, ite_F, i32_id]
theorem lxor_sign {a b : Int} (ha : -1000000 ≤ a ∧ a ≤ 1000000) (hb : -1000000 ≤ b ∧ b ≤ 1000000) : 0 ≤ i64 (lxor a b) ↔ decide (a < 0) = decide (b < 0) := by
  unfold lxor
  rw [← toInt_ofInt64, Int64.ofInt_toInt]
  have h : ∀ x : Int64, 0 ≤ x.toInt ↔ x.toBitVec.msb = false := fun x => by
    rw [← Int64.toInt_toBitVec, BitVec.msb_eq_toInt]
    simp
  rw [h, Int64.toBitVec_xor, BitVec.msb_xor]
  have h2 : ∀ a : Int, -1000000 ≤ a ∧ a ≤ 1000000 → (Int64.ofInt a).toBitVec.msb = decide (a < 0) := fun a ha => by
    rw [BitVec.msb_eq_toInt, Int64.toInt_toBitVec, toInt_ofInt64, i64_id (by omega) (by omega)]
  rw [h2 a ha, h2 b hb]
  cases decide (a < 0) <;> cases decide (b < 0) <;> simp
theorem sgn_code {c : Int} (h : c = 43 ∨ c = 45 ∨ c = 42 ∨ c = 47) : True := trivial
/-- the code of a sign -/
def cd (c : Int) : Int := if c = 43 then 1 else if c = 45 then 2 else if c = 42 then 3 else 4
theorem two_held {c a b : Int} (τ : XS) (hc : c = 43 ∨ c = 45 ∨ c = 42 ∨ c = 47) (ha : -1000000 ≤ a ∧ a ≤ 1000000) (hb : -1000000 ≤ b ∧ b ≤ 1000000) :
    Option.bind (x17_two c a b τ) (fun z => x0_held z.1 z.2) = some (jn (cd c) a b, τ) := by
  have hm : -1000000000000 ≤ a * b ∧ a * b ≤ 1000000000000 := by
    have h1 : (a * b).natAbs ≤ 1000000 * 1000000 := by
      rw [Int.natAbs_mul]
      exact Nat.mul_le_mul (by omega) (by omega)
    omega
  unfold x17_two
  rcases hc with rfl | rfl | rfl | rfl
  · simp (disch := omega) only [gd_t, gd_T, gd_ok, not_false_eq_true, eq_self, bnd_r, bind_s, ite_t, ite_n, ite_T, ite_F, i32_id, held_ev τ (v := a + b) (by omega)]
    simp [jn, cd]
  · simp (disch := omega) only [gd_t, gd_T, gd_ok, not_false_eq_true, eq_self, bnd_r, bind_s, ite_t, ite_n, ite_T, ite_F, i32_id, held_ev τ (v := a - b) (by omega)]
    simp [jn, cd]
  · simp (disch := omega) only [gd_t, gd_T, gd_ok, not_false_eq_true, eq_self, bnd_r, bind_s, ite_t, ite_n, ite_T, ite_F, i32_id, held_ev τ (v := a * b) (by omega)]
    simp [jn, cd]
  · have hj : jn (cd 47) a b = flr a b := by simp [jn, cd]
    rw [hj]
    have hfb := flr_b (b := b) ha
    by_cases hb0 : b = 0
    · subst hb0
      simp (disch := omega) only [gd_t, gd_T, gd_ok, not_false_eq_true, eq_self, bnd_r, bind_s, ite_t, ite_n, ite_T, ite_F, i32_id, held_ev τ (v := 0) (by omega)]
      simp [flr, clp]
    · have ht := tdiv_b (a := a) hb0
      have h1 : i64 b = b := i64_id (by omega) (by omega)
      have h2 : i64 a = a := i64_id (by omega) (by omega)
      have hprod : (Int.tdiv a b * b).natAbs ≤ 1000000 * 1000000 := by
        rw [Int.natAbs_mul]
        exact Nat.mul_le_mul (by omega) (by omega)
      unfold j12_floorDiv ldiv
      have h3 : i64 (Int.tdiv a b * b) = Int.tdiv a b * b := i64_id (by omega) (by omega)
      simp (disch := omega) only [gd_t, gd_T, gd_ok, not_false_eq_true, eq_self, bnd_r, bind_s, ite_t, ite_n, ite_T, ite_F, i32_id, h1, h2, i64_0, hb0, h3]
      have hs := lxor_sign ha hb
      unfold flr at hfb ⊢
      rw [if_neg hb0] at hfb ⊢
      by_cases c1 : 0 ≤ i64 (lxor a b)
      · simp (disch := omega) only [gd_t, gd_T, gd_ok, not_false_eq_true, eq_self, bnd_r, bind_s, ite_t, ite_n, ite_T, ite_F, i32_id]
        have := hs.mp c1
        rw [if_neg (by simp [this])] at hfb ⊢
        rw [held_ev τ (by omega), clp_id hfb.1 hfb.2]
      · have c2 : ¬ decide (a < 0) = decide (b < 0) := fun h => c1 (hs.mpr h)
        by_cases c3 : Int.tdiv a b * b = a
        · simp (disch := omega) only [gd_t, gd_T, gd_ok, not_false_eq_true, eq_self, bnd_r, bind_s, ite_t, ite_n, ite_T, ite_F, i32_id, c3]
          rw [if_neg (by rw [c3]; simp)] at hfb
          rw [held_ev τ (by omega), clp_id hfb.1 hfb.2]
        · simp (disch := omega) only [gd_t, gd_T, gd_ok, not_false_eq_true, eq_self, bnd_r, bind_s, ite_t, ite_n, ite_T, ite_F, i32_id]
          rw [if_pos ⟨by omega, c2⟩] at hfb ⊢
          rw [held_ev τ (by omega), clp_id hfb.1 hfb.2]
/-- a row of codes out of several, each but the first joined by its code -/
def joins : List (List Int) → List Int → List Int
  | [], _ => []
  | c0 :: css, ops => c0 ++ (css.zip ops).flatMap fun q => q.1 ++ [q.2]
/-- the parts that may be asked: in a law, in a question -/
def alw (fl : Bool) (k : Int) : Prop := if fl = true then k = 0 ∨ (4 ≤ k ∧ k < 9) else 0 ≤ k ∧ k < 5
theorem alw_b {fl : Bool} {k : Int} (h : alw fl k) : 0 ≤ k ∧ k < 9 := by
  unfold alw at h
  cases fl with
  | true => rw [if_pos rfl] at h; omega
  | false => rw [if_neg (by simp)] at h; omega
/-- the object at a cell is the sum that the codes tell; fl: whether numbers are looked up -/
def XV (τ : XS) (S : Int → Prop) (fl : Bool) : Nat → Int → List Int → Prop
  | 0, _, _ => False
  | n + 1, c, cs => S c ∧
    ((τ c (-1) = 16 ∧ (0 ≤ τ c 0 ∧ τ c 0 ≤ 9999) ∧ cs = [1000 + τ c 0]) ∨
     (τ c (-1) = 17 ∧ alw fl (τ c 0) ∧ cs = [40 + τ c 0]) ∨
     (τ c (-1) = 15 ∧ ∃ cs1 cs2, XV τ S fl n (τ c 1) cs1 ∧ XV τ S fl n (τ c 2) cs2 ∧ (τ c 0 = 0 ∨ τ c 0 = 1) ∧ cs = cs1 ++ cs2 ++ [5 + τ c 0]) ∨
     (τ c (-1) = 18 ∧ fl = true ∧ τ c 2 = 0 ∧ (τ c 0 = 0 ∨ τ c 0 = 1) ∧ ∃ cs1, XV τ S fl n (τ c 1) cs1 ∧ cs = cs1 ++ [60 + τ c 0]) ∨
     (τ c (-1) = 14 ∧ ∃ (es sg : List Int) (css : List (List Int)), lstX τ S (τ c 0) es ∧ sbdX τ S (τ c 1) sg ∧ 0 < es.length ∧ es.length = sg.length ∧ css.length = es.length ∧ (∀ x ∈ sg, x = 43 ∨ x = 45 ∨ x = 42 ∨ x = 47) ∧ (∀ (i : Nat) (x : Int) (ds : List Int), es[i]? = some x → css[i]? = some ds → XV τ S fl n x ds) ∧ cs = joins css ((sg.map cd).drop 1)))
theorem XV_dyn {τ : XS} {S : Int → Prop} {fl : Bool} {n : Nat} {c : Int} {cs : List Int} (h : XV τ S fl n c cs) : S c := by
  cases n with
  | zero => cases h
  | succ n => exact h.1
theorem XV_mono {τ : XS} {S : Int → Prop} {fl : Bool} : ∀ (n : Nat) (c : Int) (cs : List Int), XV τ S fl n c cs → XV τ S fl (n + 1) c cs := by
  intro n
  induction n with
  | zero => intro c cs h; cases h
  | succ n ih =>
    intro c cs h
    obtain ⟨h0, h⟩ := h
    refine ⟨h0, ?_⟩
    rcases h with h | h | ⟨a, cs1, cs2, h1, h2, h3, h4⟩ | ⟨a, b, c', d, cs1, h1, h2⟩ | ⟨a, es, sg, css, l1, l2, l3, l4, l5, l6, l7, l8⟩
    · exact Or.inl h
    · exact Or.inr (Or.inl h)
    · exact Or.inr (Or.inr (Or.inl ⟨a, cs1, cs2, ih _ _ h1, ih _ _ h2, h3, h4⟩))
    · exact Or.inr (Or.inr (Or.inr (Or.inl ⟨a, b, c', d, cs1, ih _ _ h1, h2⟩)))
    · exact Or.inr (Or.inr (Or.inr (Or.inr ⟨a, es, sg, css, l1, l2, l3, l4, l5, l6, fun i x ds q1 q2 => ih _ _ (l7 i x ds q1 q2), l8⟩)))
theorem lstX.kept {τ τ' : XS} {S : Int → Prop} {lc : Int} {es : List Int} (h : lstX τ S lc es) (hd : ∀ c, S c → τ' c = τ c) : lstX τ' S lc es := by
  obtain ⟨⟨a1, a2⟩, ⟨b1, b2⟩, h⟩ := h
  unfold lstX
  rw [hd lc a1, hd _ b1]
  exact ⟨⟨a1, a2⟩, ⟨b1, b2⟩, h⟩
theorem sbdX.kept {τ τ' : XS} {S : Int → Prop} {lc : Int} {es : List Int} (h : sbdX τ S lc es) (hd : ∀ c, S c → τ' c = τ c) : sbdX τ' S lc es := by
  obtain ⟨⟨a1, a2⟩, a3, ⟨b1, b2⟩, h⟩ := h
  unfold sbdX
  rw [hd lc a1, hd _ b1]
  exact ⟨⟨a1, a2⟩, a3, ⟨b1, b2⟩, h⟩
theorem XV_kept {τ τ' : XS} {S : Int → Prop} {fl : Bool} (hd : ∀ c, S c → τ' c = τ c) : ∀ (n : Nat) (c : Int) (cs : List Int), XV τ S fl n c cs → XV τ' S fl n c cs := by
  intro n
  induction n with
  | zero => intro c cs h; cases h
  | succ n ih =>
    intro c cs h
    obtain ⟨h0, h⟩ := h
    refine ⟨h0, ?_⟩
    rw [hd c h0]
    rcases h with h | h | ⟨a, cs1, cs2, h1, h2, h3, h4⟩ | ⟨a, b, c', d, cs1, h1, h2⟩ | ⟨a, es, sg, css, l1, l2, l3, l4, l5, l6, l7, l8⟩
    · exact Or.inl h
    · exact Or.inr (Or.inl h)
    · exact Or.inr (Or.inr (Or.inl ⟨a, cs1, cs2, ih _ _ h1, ih _ _ h2, h3, h4⟩))
    · exact Or.inr (Or.inr (Or.inr (Or.inl ⟨a, b, c', d, cs1, ih _ _ h1, h2⟩)))
    · exact Or.inr (Or.inr (Or.inr (Or.inr ⟨a, es, sg, css, l1.kept hd, l2.kept hd, l3, l4, l5, l6, fun i x ds q1 q2 => ih _ _ (l7 i x ds q1 q2), l8⟩)))
def chg (fl : Bool) : List Int := if fl then [10] else []
theorem chg_dyn (fl : Bool) {τ τ' : XS} (h : onx (chg fl) τ τ') : ∀ c, dyn c → τ' c = τ c := fun c hc => h c (by
  unfold chg dyn at *
  cases fl <;> simp <;> omega)
/-- more cells -/
theorem lstX.more {τ : XS} {S S' : Int → Prop} (hs : ∀ x, S x → S' x) {lc : Int} {es : List Int} (h : lstX τ S lc es) : lstX τ S' lc es := by
  obtain ⟨⟨a1, a2⟩, ⟨b1, b2⟩, h3, h4, h5, h6⟩ := h
  exact ⟨⟨hs _ a1, a2⟩, ⟨hs _ b1, b2⟩, h3, h4, h5, fun i x hi => ⟨(h6 i x hi).1, hs _ (h6 i x hi).2⟩⟩
theorem sbdX.more {τ : XS} {S S' : Int → Prop} (hs : ∀ x, S x → S' x) {lc : Int} {es : List Int} (h : sbdX τ S lc es) : sbdX τ S' lc es := by
  obtain ⟨⟨a1, a2⟩, a3, ⟨b1, b2⟩, h⟩ := h
  exact ⟨⟨hs _ a1, a2⟩, a3, ⟨hs _ b1, b2⟩, h⟩
theorem XV_more {τ : XS} {S S' : Int → Prop} {fl : Bool} (hs : ∀ x, S x → S' x) : ∀ (n : Nat) (c : Int) (cs : List Int), XV τ S fl n c cs → XV τ S' fl n c cs := by
  intro n
  induction n with
  | zero => intro c cs h; cases h
  | succ n ih =>
    intro c cs h
    obtain ⟨h0, h⟩ := h
    refine ⟨hs _ h0, ?_⟩
    rcases h with h | h | ⟨a, cs1, cs2, h1, h2, h3, h4⟩ | ⟨a, b, c', d, cs1, h1, h2⟩ | ⟨a, es, sg, css, l1, l2, l3, l4, l5, l6, l7, l8⟩
    · exact Or.inl h
    · exact Or.inr (Or.inl h)
    · exact Or.inr (Or.inr (Or.inl ⟨a, cs1, cs2, ih _ _ h1, ih _ _ h2, h3, h4⟩))
    · exact Or.inr (Or.inr (Or.inr (Or.inl ⟨a, b, c', d, cs1, ih _ _ h1, h2⟩)))
    · exact Or.inr (Or.inr (Or.inr (Or.inr ⟨a, es, sg, css, l1.more hs, l2.more hs, l3, l4, l5, l6, fun i x ds q1 q2 => ih _ _ (l7 i x ds q1 q2), l8⟩)))
theorem joins_go (pt : Int → Int) (of : Int → Int → Int) : ∀ (qs : List (List Int × Int)) (vs : List Int) (v : Int) (cs : List Int), isV pt of cs v → qs.length = vs.length → (∀ (i : Nat) (q : List Int × Int) (w : Int), qs[i]? = some q → vs[i]? = some w → isV pt of q.1 w ∧ 1 ≤ q.2 ∧ q.2 ≤ 11) → isV pt of (cs ++ qs.flatMap fun q => q.1 ++ [q.2]) ((qs.zip vs).foldl (fun a q => jn q.1.2 a q.2) v)
  | [], vs, v, cs, h, hl, _ => by simpa using h
  | q :: qs, [], v, cs, h, hl, _ => by simp at hl
  | q :: qs, w :: vs, v, cs, h, hl, hq => by
    have h0 := hq 0 q w rfl rfl
    have := joins_go pt of qs vs (jn q.2 v w) (cs ++ q.1 ++ [q.2]) (isV_jn h h0.1 h0.2.1 h0.2.2) (by simpa using hl) (fun i a b h1 h2 => hq (i + 1) a b (by simpa using h1) (by simpa using h2))
    simpa [List.append_assoc] using this
theorem cd_b (x : Int) : 1 ≤ cd x ∧ cd x ≤ 11 := by unfold cd; split <;> (try split) <;> (try split) <;> omega
theorem jn_b {c a b : Int} (hc : 1 ≤ c ∧ c ≤ 6) (ha : -1000000 ≤ a ∧ a ≤ 1000000) (hb : -1000000 ≤ b ∧ b ≤ 1000000) : -1000000 ≤ jn c a b ∧ jn c a b ≤ 1000000 := by
  rcases (show c = 1 ∨ c = 2 ∨ c = 3 ∨ c = 4 ∨ c = 5 ∨ c = 6 by omega) with rfl | rfl | rfl | rfl | rfl | rfl
  · rw [jn_1]; exact clp_b _
  · rw [jn_2]; exact clp_b _
  · rw [jn_3]; exact clp_b _
  · rw [jn_4]; exact flr_b ha
  · rw [jn_5]; split <;> omega
  · rw [jn_6]; split <;> omega
theorem XV_at {τ : XS} {S : Int → Prop} (hS : ∀ x, S x → dyn x) {fl : Bool} {n : Nat} {c : Int} {cs : List Int} (h : XV τ S fl n c cs) : isAt (tg true τ c) := by
  cases n with
  | zero => cases h
  | succ n =>
    obtain ⟨h0, h⟩ := h
    unfold isAt
    rcases h with h | h | h | h | h <;> rw [tgd (hS _ h0) h.1] <;> decide
section Eval
variable (τ0 : XS) (S : Int → Prop) (mo : Int) (fl : Bool) (pt : Int → Int) (of : Int → Int → Int) (n0 : Nat)
theorem x_at_ev (hS : ∀ x, S x → dyn x) (hmo : isMo mo) (hpt : ∀ τ, onx (chg fl) τ0 τ → ∀ k : Int, alw fl k → (-1000000000 ≤ τ (mo + 1) k ∧ τ (mo + 1) k ≤ 1000000000) ∧ clp (τ (mo + 1) k) = pt k)
    (hof : fl = true → ∀ τ, onx (chg fl) τ0 τ → ∀ m, n0 ≤ m → ∀ w k : Int, (w = 0 ∨ w = 1) → (-1000000 ≤ k ∧ k ≤ 1000000) → ∃ τ', x0_looked (x_at m) w k τ = some (of w k, τ') ∧ onx (chg fl) τ τ' ∧ (-1000000000 ≤ of w k ∧ of w k ≤ 1000000000)) :
    ∀ (n : Nat) (c : Int) (cs : List Int), XV τ0 S fl n c cs → ∀ τ, onx (chg fl) τ0 τ → ∀ m, n + n0 ≤ m → ∃ v τ', x_at m c mo τ = some (v, τ') ∧ onx (chg fl) τ τ' ∧ isV pt of cs v ∧ -1000000 ≤ v ∧ v ≤ 1000000 := by
  intro n
  induction n with
  | zero => intro c cs h; cases h
  | succ n ih =>
    intro c cs hX τ hτ m hm
    obtain ⟨m, rfl⟩ : ∃ g, m = g + 1 := ⟨m - 1, by omega⟩
    have hX' := XV_kept (fun c h => chg_dyn fl hτ c (hS c h)) _ _ _ hX
    obtain ⟨hc, hX⟩ := hX
    have hc := hS _ hc
    have ec : ∀ τ', onx (chg fl) τ τ' → τ' c = τ0 c := fun τ' h => by rw [chg_dyn fl h c hc, chg_dyn fl hτ c hc]
    have ec0 := ec τ onx.rf
    rw [x_at]
    unfold x_at_D
    rcases hX with ⟨t, hb, e⟩ | ⟨t, hb, e⟩ | ⟨t, cs1, cs2, h1, h2, h3, h4⟩ | ⟨t, hfl, t0, hw, cs1, h1, h2⟩ | ⟨t, es, sg, css, l1, l2, l3, l4, l5, l6, l7, l8⟩
    · have tt := tgd (τ := τ) (t := 16) hc (by rw [ec0]; exact t)
      simp only [tt]
      refine ⟨τ0 c 0, τ, ?_, onx.rf, by rw [e]; exact isV_num hb.1, by omega, by omega⟩
      simp only [Nat.reduceEqDiff, if_false, if_true]
      unfold x19_at
      rw [gd_t hmo, gd_t tt, ec0]
    · have tt := tgd (τ := τ) (t := 17) hc (by rw [ec0]; exact t)
      simp only [tt]
      obtain ⟨q1, q2⟩ := hpt τ hτ (τ0 c 0) hb
      have hb := alw_b hb
      refine ⟨pt (τ0 c 0), τ, ?_, onx.rf, by rw [e]; exact isV_part hb.1 hb.2, ?_⟩
      · simp only [Nat.reduceEqDiff, if_false, if_true]
        unfold x20_at
        rw [gd_t hmo, gd_t tt, ec0]
        simp (disch := omega) only [gd_t, gd_T, gd_ok, not_false_eq_true, eq_self, bnd_r, bind_s, ite_t, ite_n, ite_T, ite_F, i32_id, held_ev τ (v := τ (mo + 1) (τ0 c 0)) (by omega), q2]
      · rw [← q2]; exact clp_b _
    · have tt : ∀ τ', onx (chg fl) τ τ' → tg true τ' c = 15 := fun τ' h => tgd hc (by rw [ec τ' h]; exact t)
      simp only [tt τ onx.rf]
      obtain ⟨v1, τ1, a1, a2, a3, a4⟩ := ih _ _ h1 τ hτ m (by omega)
      obtain ⟨v2, τ2, b1, b2, b3, b4⟩ := ih _ _ h2 τ1 (hτ.tr a2) m (by omega)
      have d1 := hS _ (XV_dyn h1)
      have d2 := hS _ (XV_dyn h2)
      refine ⟨jn (5 + τ0 c 0) v1 v2, τ2, ?_, a2.tr b2, by rw [h4]; exact isV_jn a3 b3 (by omega) (by omega), jn_b (by omega) a4 b4⟩
      simp only [Nat.reduceEqDiff, if_false, if_true]
      unfold x18_at
      have q3 := ec τ2 (a2.tr b2)
      rcases h3 with h3 | h3
      · simp (disch := omega) only [gd_t, gd_T, gd_ok, not_false_eq_true, eq_self, bnd_r, bind_s, ite_t, ite_n, ite_T, ite_F, i32_id, gd_t hmo, tt τ onx.rf, ec0, dyn_nf d1, a1, tt τ1 a2, ec τ1 a2, dyn_nf d2, b1, tt τ2 (a2.tr b2), q3, h3, i64_id]
        rw [Int.add_zero, jn_5]
        by_cases q : v1 ≤ v2
        · rw [ite_t q]
          by_cases q2 : v1 < v2
          · rw [if_pos q2]
          · rw [if_neg q2, show v1 = v2 by omega]
        · rw [ite_n q, if_neg (by omega)]
      · simp (disch := omega) only [gd_t, gd_T, gd_ok, not_false_eq_true, eq_self, bnd_r, bind_s, ite_t, ite_n, ite_T, ite_F, i32_id, gd_t hmo, tt τ onx.rf, ec0, dyn_nf d1, a1, tt τ1 a2, ec τ1 a2, dyn_nf d2, b1, tt τ2 (a2.tr b2), q3, h3, i64_id]
        rw [show (5 : Int) + 1 = 6 from rfl, jn_6]
        by_cases q : v1 ≤ v2
        · rw [ite_t q, if_neg (by omega)]
        · rw [ite_n q, if_pos (by omega)]
    · have tt : ∀ τ', onx (chg fl) τ τ' → tg true τ' c = 18 := fun τ' h => tgd hc (by rw [ec τ' h]; exact t)
      simp only [tt τ onx.rf]
      obtain ⟨v1, τ1, a1, a2, a3, a4⟩ := ih _ _ h1 τ hτ m (by omega)
      have d1 := hS _ (XV_dyn h1)
      obtain ⟨τ2, b1, b2, b3⟩ := hof hfl τ1 (hτ.tr a2) m (by omega) (τ0 c 0) v1 hw a4
      refine ⟨clp (of (τ0 c 0) v1), τ2, ?_, a2.tr b2, by rw [h2]; exact isV_of a3 (by omega) (by omega), clp_b _⟩
      simp only [Nat.reduceEqDiff, if_false, if_true]
      unfold x21_at
      simp (disch := omega) only [gd_t, gd_T, gd_ok, not_false_eq_true, eq_self, bnd_r, bind_s, ite_t, ite_n, ite_T, ite_F, i32_id, gd_t hmo, tt τ onx.rf, ec0, t0, dyn_nf d1, a1, b1, held_ev τ2 (v := of (τ0 c 0) v1) (by omega)]
    · have tt : ∀ τ', onx (chg fl) τ τ' → tg true τ' c = 14 := fun τ' h => tgd hc (by rw [ec τ' h]; exact t)
      simp only [tt τ onx.rf]
      have L1 : ∀ τ', onx (chg fl) τ0 τ' → lstX τ' S (τ0 c 0) es := fun τ' h => l1.kept (fun c q => chg_dyn fl h c (hS c q))
      have L2 : ∀ τ', onx (chg fl) τ0 τ' → sbdX τ' S (τ0 c 1) sg := fun τ' h => l2.kept (fun c q => chg_dyn fl h c (hS c q))
      have dl := hS _ l1.1.1
      have ds := hS _ l2.1.1
      have tl : ∀ τ', onx (chg fl) τ0 τ' → tg true τ' (τ0 c 0) = 21 := fun τ' h => tgd dl (L1 τ' h).1.2
      have ts : ∀ τ', onx (chg fl) τ0 τ' → tg true τ' (τ0 c 1) = 23 := fun τ' h => tgd ds (L2 τ' h).1.2
      have hes : ∀ i : Nat, i < es.length → ∃ x d, es[i]? = some x ∧ css[i]? = some d ∧ XV τ0 S fl n x d := fun i hi => ⟨_, _, List.getElem?_eq_getElem hi, List.getElem?_eq_getElem (by omega), l7 i _ _ (List.getElem?_eq_getElem hi) (List.getElem?_eq_getElem (by omega))⟩
      obtain ⟨x0, d0, e0, f0, g0⟩ := hes 0 l3
      obtain ⟨v0, τ1, a1, a2, a3, a4⟩ := ih _ _ g0 τ hτ m (by omega)
      have hlen : (es.length : Int) ≤ 900000 := by obtain ⟨-, -, -, q1, q2, -⟩ := l1; omega
      cases css with
      | nil => simp at l5; omega
      | cons c0 css =>
        have : d0 = c0 := by simpa using f0.symm
        subst this
        simp only [List.length_cons] at l5
        have hz : (css.zip ((sg.map cd).drop 1)).length = css.length := by simp; omega
        obtain ⟨⟨v, τ2⟩, ⟨i1, i2, i3⟩, h2⟩ := for_loop (fun f i (z : Int × XS) => x17_at_L21 (x_at m) c mo (fun a s => some (a, s)) f z.1 i z.2) (fun z => some (z.1, z.2)) es.length
          (fun i z => onx (chg fl) τ0 z.2 ∧ (isV pt of (d0 ++ ((css.zip ((sg.map cd).drop 1)).take (i - 1).toNat).flatMap fun q => q.1 ++ [q.2]) z.1 ∧ -1000000 ≤ z.1 ∧ z.1 ≤ 1000000) ∧ 1 ≤ i)
          (fun i z hI hi => by
            obtain ⟨j1, ⟨j2, j3⟩, j4⟩ := hI
            have j5 : onx (chg fl) τ z.2 := fun q hq => by rw [j1 q hq, hτ q hq]
            obtain ⟨x, d, k1, k2, k3⟩ := hes i.toNat (by omega)
            obtain ⟨w, τ3, b1, b2, b3, b4⟩ := ih _ _ k3 z.2 j1 m (by omega)
            have hsg : sg[i.toNat]? = some (sg[i.toNat]'(by omega)) := List.getElem?_eq_getElem (by omega)
            have hsm := l6 _ (List.getElem_mem (l := sg) (n := i.toNat) (by omega))
            generalize sg[i.toNat]'(by omega) = sc at hsg hsm
            have j6 := j5.tr b2
            have hjb := jn_b (c := cd sc) (by unfold cd; split <;> (try split) <;> (try split) <;> omega) j3 b4
            have hca := charAt_ev hS (L2 z.2 j1) hsg
            have hge := get_ev hS (L1 z.2 j1) k1
            rw [Int.toNat_of_nonneg (by omega)] at hca hge
            refine ⟨(jn (cd sc) z.1 w, τ3), ⟨j1.tr b2, ⟨?_, hjb⟩, by omega⟩, fun f => ?_⟩
            · have hi' : (i + 1 - 1).toNat = (i - 1).toNat + 1 := by omega
              have hq : (css.zip ((sg.map cd).drop 1))[(i - 1).toNat]? = some (d, cd sc) := by
                rw [List.getElem?_zip_eq_some]
                constructor
                · have : i.toNat = (i - 1).toNat + 1 := by omega
                  rw [this] at k2
                  simpa using k2
                · rw [List.getElem?_drop, List.getElem?_map, show 1 + (i - 1).toNat = i.toNat by omega, hsg]
                  rfl
              rw [hi', List.take_add_one, hq]
              simp only [Option.toList, List.flatMap_append, List.flatMap_cons, List.flatMap_nil, List.append_nil]
              have := isV_jn j2 b3 (cd_b sc).1 (cd_b sc).2
              simpa [List.append_assoc] using this
            · show x17_at_L21 _ _ _ _ (f + 1) z.1 i z.2 = x17_at_L21 _ _ _ _ f _ (i + 1) τ3
              have th := two_held τ3 hsm j3 b4
              have atx : isAt (tg true z.2 x) := XV_at hS (XV_kept (fun c h => chg_dyn fl j1 c (hS c h)) _ _ _ k3)
              obtain ⟨z30, q1, q2⟩ := opt_e th
              rw [x17_at_L21]
              simp (disch := omega) only [gd_t, gd_T, gd_ok, not_false_eq_true, eq_self, bnd_r, bind_s, ite_t, ite_n, ite_T, ite_F, i32_id, tt z.2 j5, ec z.2 j5, dyn_nf dl, tl z.2 j1, size_ev hS (L1 z.2 j1), dyn_nf ds, ts z.2 j1, hca, hge, gd_t atx, b1, q1, q2])
          (fun z hI f => by
            obtain ⟨j1, ⟨j2, j3⟩, j4⟩ := hI
            have j5 : onx (chg fl) τ z.2 := fun q hq => by rw [j1 q hq, hτ q hq]
            show x17_at_L21 _ _ _ _ (f + 1) z.1 _ z.2 = some (z.1, z.2)
            rw [x17_at_L21]
            simp (disch := omega) only [gd_t, gd_T, gd_ok, not_false_eq_true, eq_self, bnd_r, bind_s, ite_t, ite_n, ite_T, ite_F, i32_id, tt z.2 j5, ec z.2 j5, dyn_nf dl, tl z.2 j1, size_ev hS (L1 z.2 j1)]) (es.length - 1) FU 1 (v0, τ1) ⟨hτ.tr a2, ⟨by simpa using a3, a4⟩, by omega⟩ (by omega) (by have := FU_ge; omega)
        simp only at i1 i2 i3 h2
        refine ⟨v, τ2, ?_, fun q hq => by rw [i1 q hq, hτ q hq], ?_, i2.2⟩
        · simp only [if_true]
          unfold x17_at
          have hge := get_ev hS (L1 τ hτ) e0
          rw [show (((0 : Nat) : Nat) : Int) = 0 from rfl] at hge
          simp (disch := omega) only [gd_t, gd_T, gd_ok, not_false_eq_true, eq_self, bnd_r, bind_s, ite_t, ite_n, ite_T, ite_F, i32_id, gd_t hmo, tt τ onx.rf, ec0, dyn_nf dl, tl τ hτ, hge, gd_t (XV_at hS (XV_kept (fun c h => chg_dyn fl hτ c (hS c h)) _ _ _ g0)), a1]
          exact h2
        · rw [l8]
          unfold joins
          have := i2.1
          rw [List.take_of_length_le (by rw [hz]; omega)] at this
          exact this
end Eval
