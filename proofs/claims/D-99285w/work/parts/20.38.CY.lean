set_option maxRecDepth 100000
/-! LAYER 2: the country as it is read: system against reference -/
section
variable {T : Int → Int} {n p : Int} {τ τ' : XS} {s s' : MS} {c : Int}
/-- new cells, without the country's own and its lists' -/
def cyn (τ : XS) (c y : Int) : Prop := (1514 ≤ y ∧ y < τ (-1) 0) ∧ y ≠ c ∧ (y ≠ τ c 4 ∧ y ≠ τ (τ c 4) 1) ∧ (y ≠ τ c 5 ∧ y ≠ τ (τ c 5) 1)
def nwc (y : Int) : Prop := 1514 ≤ y
theorem nwc_dyn {y : Int} (h : nwc y) : dyn y := Or.inr h
/-- the country's object and its lists -/
def cyS (τ : XS) (c : Int) (es fs : List Int) : Prop := (1514 ≤ c ∧ τ c (-1) = 2) ∧ (τ c 4 ≠ τ c 5 ∧ τ (τ c 4) 1 ≠ τ (τ c 5) 1) ∧ (lstX τ nwc (τ c 4) es ∧ 2 ≤ τ (τ (τ c 4) 1) (-2) ∧ τ (τ (τ c 4) 1) (-2) ≤ 2 * es.length + 4) ∧ (lstX τ nwc (τ c 5) fs ∧ 2 ≤ τ (τ (τ c 5) 1) (-2) ∧ τ (τ (τ c 5) 1) (-2) ≤ 2 * fs.length + 4)
theorem cyS.tags {es fs : List Int} (h : cyS τ c es fs) : τ c (-1) = 2 ∧ τ (τ c 4) (-1) = 21 ∧ τ (τ (τ c 4) 1) (-1) = 110 ∧ τ (τ c 5) (-1) = 21 ∧ τ (τ (τ c 5) 1) (-1) = 110 := ⟨h.1.2, h.2.2.1.1.1.2, h.2.2.1.1.2.1.2, h.2.2.2.1.1.2, h.2.2.2.1.2.1.2⟩
theorem cyn_tag {es fs : List Int} (h : cyS τ c es fs) (ha : al τ) {y t : Int} (hy : 1514 ≤ y) (ht : τ y (-1) = t) (h1 : t ≠ 0 ∧ t ≠ 2 ∧ t ≠ 21 ∧ t ≠ 110) : cyn τ c y := by
  obtain ⟨t1, t2, t3, t4, t5⟩ := h.tags
  refine ⟨⟨hy, tag_lt ha ht h1.1⟩, ?_, ⟨?_, ?_⟩, ?_, ?_⟩ <;> intro e <;> rw [e] at ht <;> omega
/-- a saying of both -/
def syOk (τ : XS) (s : MS) (i : Nat) (x : Int) (w : List Int) : Prop := (1514 ≤ x ∧ τ x (-1) = 9) ∧ strX τ (τ x 0) w ∧ (τ x 1 = s 38 (3 * i) ∧ τ x 2 = s 38 (3 * i + 1) ∧ τ x 3 = s 38 (3 * i + 2)) ∧ (0 ≤ τ x 1 ∧ τ x 1 ≤ 9) ∧ (0 ≤ τ x 2 ∧ τ x 2 ≤ 9) ∧ (0 ≤ τ x 3 ∧ τ x 3 ≤ 9)
/-- a verb of both -/
def vbOk (τ : XS) (s : MS) (i : Nat) (x : Int) (w : List Int) : Prop := (1514 ≤ x ∧ τ x (-1) = 10) ∧ strX τ (τ x 0) w ∧ (τ x 1 = s 39 (2 * i) ∧ τ x 2 = s 39 (2 * i + 1)) ∧ (0 ≤ τ x 1 ∧ τ x 1 ≤ 9) ∧ (0 ≤ τ x 2 ∧ τ x 2 ≤ 9)
def allOk (P : Nat → Int → List Int → Prop) (es : List Int) (ws : List (List Int)) : Prop := es.length = ws.length ∧ ∀ (i : Nat) (x : Int) (w : List Int), es[i]? = some x → ws[i]? = some w → P i x w
theorem strX.kept {x : Int} {w : List Int} (h : strX τ x w) (h0 : τ' x = τ x) (h1 : τ' (τ x 0) = τ (τ x 0)) : strX τ' x w := h.of2 (by rw [h0]; exact ⟨rfl, rfl, rfl⟩) h1
theorem syOk.kept {i : Nat} {x : Int} {w : List Int} (h : syOk τ s i x w) (hk : ∀ y, fre y → (τ y (-1) = 9 ∨ τ y (-1) = 10 ∨ τ y (-1) = 22 ∨ τ y (-1) = 102) → τ' y = τ y) (hm : ∀ j : Int, 3 * i ≤ j → j ≤ 3 * i + 2 → s' 38 j = s 38 j) : syOk τ' s' i x w := by
  obtain ⟨⟨a1, a2⟩, b1, ⟨c1, c2, c3⟩, d⟩ := h
  have k1 := hk x (new_fre a1) (by omega)
  have k2 := hk (τ x 0) b1.1.1 (by have := b1.1.2; omega)
  have k3 := hk (τ (τ x 0) 0) b1.2.2.1.1 (by have := b1.2.2.1.2; omega)
  have q := b1.kept k2 k3
  refine ⟨⟨a1, by rw [k1]; exact a2⟩, by rw [k1]; exact q, ?_, by rw [k1]; exact d⟩
  rw [k1, hm _ (by omega) (by omega), hm _ (by omega) (by omega), hm _ (by omega) (by omega)]
  exact ⟨c1, c2, c3⟩
theorem vbOk.kept {i : Nat} {x : Int} {w : List Int} (h : vbOk τ s i x w) (hk : ∀ y, fre y → (τ y (-1) = 9 ∨ τ y (-1) = 10 ∨ τ y (-1) = 22 ∨ τ y (-1) = 102) → τ' y = τ y) (hm : ∀ j : Int, 2 * i ≤ j → j ≤ 2 * i + 1 → s' 39 j = s 39 j) : vbOk τ' s' i x w := by
  obtain ⟨⟨a1, a2⟩, b1, ⟨c1, c2⟩, d⟩ := h
  have k1 := hk x (new_fre a1) (by omega)
  have k2 := hk (τ x 0) b1.1.1 (by have := b1.1.2; omega)
  have k3 := hk (τ (τ x 0) 0) b1.2.2.1.1 (by have := b1.2.2.1.2; omega)
  have q := b1.kept k2 k3
  refine ⟨⟨a1, by rw [k1]; exact a2⟩, by rw [k1]; exact q, ?_, by rw [k1]; exact d⟩
  rw [k1, hm _ (by omega) (by omega), hm _ (by omega) (by omega)]
  exact ⟨c1, c2⟩
/-- the codes that the reference keeps of law k -/
def cdM (s : MS) (k : Int) (cs : List Int) : Prop := (0 ≤ s 41 k ∧ s 42 k = s 41 k + cs.length ∧ s 42 k ≤ s 44 0) ∧ ∀ (i : Nat) (x : Int), cs[i]? = some x → s 43 (s 41 k + i) = x
def lawT (τ : XS) (s : MS) (c : Int) : Prop := (τ c 6 = -1 ∧ s 41 0 = -1) ∨ ∃ cs, XT τ (cyn τ c) false 15 (τ c 6) cs ∧ cdM s 0 cs
def lawV (τ : XS) (s : MS) (c k : Int) : Prop := (τ c (6 + k) = -1 ∧ s 41 k = -1) ∨ ∃ cs, XV τ (cyn τ c) false 21 (τ c (6 + k)) cs ∧ cdM s k cs
/-- the plain fields -/
def cyF (τ : XS) (s : MS) (c d : Int) : Prop := (τ c 0 = s 45 0 + d ∧ 1 ≤ s 45 0 ∧ s 45 0 + d ≤ 80) ∧ (τ c 1 = s 35 0 ∧ 1 ≤ s 35 0 ∧ s 35 0 ≤ 99) ∧ (τ c 3 = s 35 1 ∧ 0 ≤ s 35 1 ∧ s 35 1 ≤ 100) ∧ (τ c 2 = s 40 0 ∧ 0 ≤ s 40 0 ∧ s 40 0 < 128)
/-- the whole country -/
def CYR (τ : XS) (s : MS) (c d : Int) (es fs : List Int) (ws vs : List (List Int)) : Prop := cyS τ c es fs ∧ (allOk (syOk τ s) es ws ∧ wdsM s 0 ws ∧ ws.length ≤ 6) ∧ (allOk (vbOk τ s) fs vs ∧ wdsM s 1 vs) ∧ cyF τ s c d ∧ (lawT τ s c ∧ lawV τ s c 1 ∧ lawV τ s c 2) ∧ 0 ≤ s 44 0
/-- what stands of the new cells stays -/
def kps (τ τ' : XS) : Prop := τ (-1) 0 ≤ τ' (-1) 0 ∧ ∀ y, fre y → y < τ (-1) 0 → τ' y = τ y
theorem ext.kps (h : ext τ τ') : kps τ τ' := ⟨h.1.1, fun y q1 q2 => h.2.2.1 y (fre_ne q1) (by unfold fre at q1; omega) (by unfold fre at q1; omega) q2⟩
theorem cyn.kp (ha : al τ) (he : kps τ τ') {es fs : List Int} (hc : cyS τ c es fs) {y : Int} (h : cyn τ c y) : τ' y = τ y ∧ cyn τ' c y := by
  obtain ⟨⟨h1, h2⟩, h3⟩ := h
  have hN := he.1
  have e : ∀ y, 1514 ≤ y → y < τ (-1) 0 → τ' y = τ y := fun y q1 q2 => he.2 y (new_fre q1) q2
  refine ⟨e y h1 h2, ⟨h1, by omega⟩, ?_⟩
  have t := hc.tags
  have ec := e c hc.1.1 (tag_lt ha t.1 (by decide))
  have e4 := e (τ c 4) hc.2.2.1.1.1.1 (tag_lt ha t.2.1 (by decide))
  have e5 := e (τ c 5) hc.2.2.2.1.1.1 (tag_lt ha t.2.2.2.1 (by decide))
  rw [ec, e4, e5]
  exact h3
theorem lstX.kep2 {S : Int → Prop} {lc : Int} {es : List Int} (h : lstX τ S lc es) (h0 : τ' lc = τ lc) (h1 : τ' (τ lc 1) = τ (τ lc 1)) : lstX τ' S lc es := by
  unfold lstX
  rw [h0, h1]
  exact h
theorem cyS.kp (ha : al τ) (he : kps τ τ') {es fs : List Int} (hc : cyS τ c es fs) : cyS τ' c es fs := by
  have e : ∀ y, 1514 ≤ y → y < τ (-1) 0 → τ' y = τ y := fun y q1 q2 => he.2 y (new_fre q1) q2
  have t := hc.tags
  have ec := e c hc.1.1 (tag_lt ha t.1 (by decide))
  have e4 := e (τ c 4) hc.2.2.1.1.1.1 (tag_lt ha t.2.1 (by decide))
  have e5 := e (τ c 5) hc.2.2.2.1.1.1 (tag_lt ha t.2.2.2.1 (by decide))
  have e6 := e (τ (τ c 4) 1) hc.2.2.1.1.2.1.1 (tag_lt ha t.2.2.1 (by decide))
  have e7 := e (τ (τ c 5) 1) hc.2.2.2.1.2.1.1 (tag_lt ha t.2.2.2.2 (by decide))
  obtain ⟨h1, h2, ⟨h3, h4⟩, h5, h6⟩ := hc
  have q3 := h3.kep2 e4 e6
  have q5 := h5.kep2 e5 e7
  unfold cyS
  rw [ec, e4, e5, e6, e7]
  exact ⟨h1, h2, ⟨q3, h4⟩, q5, h6⟩
/-- the reference's fields of the country -/
def cyk : List Nat := [35, 36, 37, 38, 39, 40, 41, 42, 43, 44, 45]
theorem CYR.kp (ha : al τ) (he : kps τ τ') {es fs : List Int} {ws vs : List (List Int)} {d : Int} (h : CYR τ s c d es fs ws vs) (hm : ∀ k ∈ cyk, s' k = s k) : CYR τ' s' c d es fs ws vs := by
  obtain ⟨hc, ⟨a1, a2, a3⟩, ⟨b1, b2⟩, f, ⟨l0, l1, l2⟩, g⟩ := h
  have hk : ∀ y, cyn τ c y → τ' y = τ y := fun y hy => (hy.kp ha he hc).1
  have hk3 : ∀ y, fre y → (τ y (-1) = 9 ∨ τ y (-1) = 10 ∨ τ y (-1) = 22 ∨ τ y (-1) = 102) → τ' y = τ y := fun y hf ht => he.2 y hf (tag_lt ha (c := y) rfl (by omega))
  have hk2 : ∀ y, cyn τ c y → cyn τ' c y := fun y hy => (hy.kp ha he hc).2
  have t := hc.tags
  have hN := he.1
  have ec : τ' c = τ c := he.2 c (new_fre hc.1.1) (tag_lt ha t.1 (by decide))
  have m := fun k hk => hm k hk
  have wk : ∀ kd ws, wdsM s kd ws → wdsM s' kd ws := fun kd ws q => by
    unfold wdsM
    rw [m 36 (by decide), m 37 (by decide)]
    exact q
  have ck : ∀ k cs, cdM s k cs → cdM s' k cs := fun k cs q => by
    unfold cdM
    rw [m 41 (by decide), m 42 (by decide), m 43 (by decide), m 44 (by decide)]
    exact q
  have lk : ∀ k, lawV τ s c k → lawV τ' s' c k := fun k q => by
    unfold lawV
    rw [ec, m 41 (by decide)]
    rcases q with q | ⟨cs, q1, q2⟩
    · exact Or.inl q
    · exact Or.inr ⟨cs, XV_more hk2 _ _ _ (XV_kept hk _ _ _ q1), ck _ _ q2⟩
  refine ⟨hc.kp ha he, ⟨⟨a1.1, fun i x w e1 e2 => (a1.2 i x w e1 e2).kept hk3 (fun j _ _ => by rw [m 38 (by decide)])⟩, wk _ _ a2, a3⟩, ⟨⟨b1.1, fun i x w e1 e2 => (b1.2 i x w e1 e2).kept hk3 (fun j _ _ => by rw [m 39 (by decide)])⟩, wk _ _ b2⟩, ?_, ⟨?_, lk 1 l1, lk 2 l2⟩, by rw [m 44 (by decide)]; exact g⟩
  · unfold cyF
    rw [ec, m 45 (by decide), m 35 (by decide), m 40 (by decide)]
    exact f
  · unfold lawT
    rw [ec, m 41 (by decide)]
    rcases l0 with q | ⟨cs, q1, q2⟩
    · exact Or.inl q
    · exact Or.inr ⟨cs, XT_kept hk hk2 _ _ _ q1, ck _ _ q2⟩
theorem CYR.keep (ha : al τ) (he : ext τ τ') {es fs : List Int} {ws vs : List (List Int)} {d : Int} (h : CYR τ s c d es fs ws vs) (hm : ∀ k ∈ cyk, s' k = s k) : CYR τ' s' c d es fs ws vs := h.kp ha he.kps hm
end
