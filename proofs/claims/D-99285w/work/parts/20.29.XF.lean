set_option maxRecDepth 100000
/-! LAYER 2: the system's tests, as they grow -/
def DT (o : Int) : Nat := (2 * (6 - o)).toNat + 1
section
variable {τ τ' : XS}
theorem XV_le {S : Int → Prop} {fl : Bool} {c : Int} {cs : List Int} {m n : Nat} (h : m ≤ n) (hx : XV τ S fl m c cs) : XV τ S fl n c cs := by
  induction n with
  | zero => rw [show m = 0 by omega] at hx; exact hx
  | succ n ih =>
    by_cases q : m = n + 1
    · rw [← q]; exact hx
    · exact XV_mono _ _ _ (ih (by omega))
theorem XT_le {S : Int → Prop} {fl : Bool} {c : Int} {cs : List Int} {m n : Nat} (h : m ≤ n) (hx : XT τ S fl m c cs) : XT τ S fl n c cs := by
  induction n with
  | zero => rw [show m = 0 by omega] at hx; exact hx
  | succ n ih =>
    by_cases q : m = n + 1
    · rw [← q]; exact hx
    · exact XT_mono _ _ _ (ih (by omega))
theorem XT_tag {S : Int → Prop} {fl : Bool} {n : Nat} {c : Int} {cs : List Int} (h : XT τ S fl n c cs) : 0 < τ c (-1) ∧ τ c (-1) < 100 := by
  cases n with
  | zero => cases h
  | succ n =>
    obtain ⟨-, h⟩ := h
    rcases h with h | h | h | h <;> rw [h.1] <;> decide
def fcn (τ : XS) (N0 c x : Int) : Prop := (N0 ≤ x ∧ x < τ (-1) 0) ∧ x ≠ c ∧ x ≠ τ c 0 ∧ x ≠ τ (τ c 0) 1
def FC (τ : XS) (N0 : Int) (fl : Bool) (d : Nat) (c a : Int) (es : List Int) (css : List (List Int)) : Prop :=
  (rg N0 (τ (-1) 0) c ∧ τ c (-1) = 11) ∧ (τ c 1 = a ∧ (a = 0 ∨ a = 1)) ∧ lstX τ (rg N0 (τ (-1) 0)) (τ c 0) es ∧ (2 ≤ τ (τ (τ c 0) 1) (-2) ∧ τ (τ (τ c 0) 1) (-2) ≤ 2 * es.length + 4) ∧ css.length = es.length ∧ ∀ (i : Nat) (x : Int) (ds : List Int), es[i]? = some x → css[i]? = some ds → XT τ (fcn τ N0 c) fl d x ds
def potF (τ : XS) (c : Int) : Int := 4 * τ (τ (τ c 0) 1) (-2)
theorem newFacts_ev (ha : al τ) (fl : Bool) (d : Nat) {a : Int} (h01 : a = 0 ∨ a = 1) : ∃ τ', x13_init true (τ (-1) 0) a (nwx τ 11 0 2 (dfl 11)) = some (0, τ') ∧ ext τ τ' ∧ al τ' ∧ FC τ' (τ (-1) 0) fl d (τ (-1) 0) a [] [] ∧ τ' 7 = τ 7 ∧ τ' 8 = τ 8 ∧ τ' (-1) 0 = τ (-1) 0 + 3 ∧ τ' (-1) 1 = τ (-1) 1 + 7 ∧ potF τ' (τ (-1) 0) = 8 := by
  have hN := ha.1
  have hS := ha.2.1
  obtain ⟨s2, n1, n2, n3, n4, n5, n6, n7, n8, n9⟩ := nwx_all ha 11 0 (sl := 2) (dfl 11) (by omega)
  obtain ⟨s4, a1, a2, a3, a4, a5, a6, a7, a8, a9, a10, a11⟩ := newList_ev n2 (k := 2) (by omega)
  rw [n7] at a1 a3 a4 a7 a8 a9 a10 a11
  obtain ⟨s8, e8⟩ : ∃ s, ux s4 (τ (-1) 0) 0 (τ (-1) 0 + 1) = s := ⟨_, rfl⟩
  have f8 : ∀ c, c ≠ τ (-1) 0 → s8 c = s4 c := fun c hc => by rw [← e8]; exact ux_cell hc
  have g2 := tgf (τ := s4) (t := 11) (new_fre hN) (by rw [a3 _ (by omega) (by omega)]; exact n4)
  have g8 := tgf (τ := s8) (t := 11) (new_fre hN) (by rw [← e8, ux_i _ _ _ _ (by decide), a3 _ (by omega) (by omega)]; exact n4)
  have nn1 : 0 ≤ s2 (-1) 0 ∧ 0 ≤ s2 (-1) 1 := by rw [n7, n8]; omega
  have q1 := fre_nf (new_fre (show 1514 ≤ τ (-1) 0 + 1 by omega))
  have ba : bz a := by rcases h01 with rfl | rfl; exact bz_0; exact bz_1
  obtain ⟨t, et⟩ : ∃ s, ux s8 (τ (-1) 0) 1 a = s := ⟨_, rfl⟩
  have ft : ∀ c, c ≠ τ (-1) 0 → t c = s4 c := fun c hc => by rw [← et, ux_cell hc, f8 c hc]
  have t0 : t (τ (-1) 0) 0 = τ (-1) 0 + 1 := by rw [← et, ux_i _ _ _ _ (by decide), ← e8, ux_s]
  have t1 : t (τ (-1) 0) 1 = a := by rw [← et, ux_s]
  have tN : t (-1) 0 = τ (-1) 0 + 3 := by rw [ft _ (by omega), a4]; omega
  have c1 : t (τ (-1) 0 + 1) = s4 (τ (-1) 0 + 1) := ft _ (by omega)
  have c2 : t (τ (-1) 0 + 1 + 1) = s4 (τ (-1) 0 + 1 + 1) := ft _ (by omega)
  have low : ∀ y, y ≠ -1 → y < τ (-1) 0 → t y = τ y := fun y y1 y2 => by rw [ft y (by omega), a3 y y1 (by omega), n9 y (by omega) y1]
  refine ⟨t, ?_, ?_, ?_, ?_, ?_, ?_, ?_, ?_, ?_⟩
  · unfold x13_init x12_init
    simp (disch := omega) only [gd_t, gd_T, gd_ok, not_false_eq_true, eq_self, bnd_r, bind_s, ite_t, ite_n, ite_T, ite_F, i32_id, n1, gd_t nn1, n7, a1, g2, q1, e8, g8, gd_t ba, et]
  · refine ⟨⟨by omega, by rw [ft _ (by omega), a5, n8]; omega⟩, fun i hi => by rw [ft _ (by omega), a6 i hi, n3.2.1 i hi], fun c d1 d2 d3 d4 => low c d1 d4, fun i d1 d2 d3 => by rw [low 7 (by omega) (by omega)]⟩
  · have : al s8 := by rw [← e8]; exact a2.u (by omega) (by omega)
    rw [← et]; exact this.u (by omega) (by omega)
  · unfold FC rg
    rw [t0, t1, tN, c1, a8, c2]
    refine ⟨⟨by omega, by rw [← et, ux_i _ _ _ _ (by decide), ← e8, ux_i _ _ _ _ (by decide), a3 _ (by omega) (by omega)]; exact n4⟩, ⟨rfl, h01⟩, ?_, ?_, rfl, (fun i x ds hi => by cases hi)⟩
    · unfold lstX
      rw [c1, a8, c2]
      exact ⟨⟨by omega, a7⟩, ⟨by omega, a10⟩, a9, by rw [a11]; simp, by rw [a11]; omega, fun i x hi => by cases hi⟩
    · rw [a11]; simp
  · exact low 7 (by omega) (by omega)
  · exact low 8 (by omega) (by omega)
  · exact tN
  · rw [ft _ (by omega), a5, n8]; omega
  · unfold potF
    rw [t0, c1, a8, c2, a11]; rfl
theorem FC.keep {N0 : Int} (hN0 : 1514 ≤ N0) {fl : Bool} {d : Nat} {c a : Int} {es : List Int} {css : List (List Int)} (h : FC τ N0 fl d c a es css) (he : ext τ τ') : FC τ' N0 fl d c a es css ∧ potF τ' c = potF τ c ∧ τ' c 0 = τ c 0 := by
  obtain ⟨⟨⟨h1, h1'⟩, h2⟩, h0, h3, h5, h6, h8⟩ := h
  have hd : ∀ y, rg N0 (τ (-1) 0) y → τ' y = τ y := fun y hy => by unfold rg at hy; exact he.2.2.1 y (by omega) (by omega) (by omega) hy.2
  have hN := he.1.1
  have hm : ∀ y, rg N0 (τ (-1) 0) y → rg N0 (τ' (-1) 0) y := fun y hy => by unfold rg at *; omega
  have e1 : τ' c = τ c := hd c ⟨h1, h1'⟩
  have e2 : τ' (τ c 0) = τ (τ c 0) := hd _ h3.1.1
  have e3 : τ' (τ (τ c 0) 1) = τ (τ (τ c 0) 1) := hd _ h3.2.1.1
  refine ⟨?_, ?_, by rw [e1]⟩
  · unfold FC
    rw [e1, e2, e3]
    refine ⟨⟨hm _ ⟨h1, h1'⟩, h2⟩, h0, (h3.kept hd).more hm, h5, h6, fun i x ds hi hj => ?_⟩
    refine XT_kept (fun y hy => hd y hy.1) (fun y hy => ?_) _ _ _ (h8 i x ds hi hj)
    unfold fcn at *
    rw [e1, e2]
    omega
  · unfold potF
    rw [e1, e2, e3]
def fcLt (τ : XS) (c N1 : Int) : Prop := c < N1 ∧ τ c 0 < N1 ∧ τ (τ c 0) 1 < N1
theorem fcLt_keep {N0 : Int} (hN0 : 1514 ≤ N0) {fl : Bool} {d : Nat} {c a : Int} {es : List Int} {css : List (List Int)} (h : FC τ N0 fl d c a es css) (he : ext τ τ') : fcLt τ' c (τ (-1) 0) := by
  obtain ⟨⟨⟨h1, h1'⟩, h2⟩, h0, h3, h5, h6, h8⟩ := h
  have hd : ∀ y, rg N0 (τ (-1) 0) y → τ' y = τ y := fun y hy => by unfold rg at hy; exact he.2.2.1 y (by omega) (by omega) (by omega) hy.2
  unfold fcLt
  rw [hd c ⟨h1, h1'⟩, hd _ h3.1.1]
  exact ⟨h1', h3.1.1.2, h3.2.1.1.2⟩
theorem FC.add {τ0 : XS} (h0 : ext τ0 τ) {N0 : Int} (hN : τ0 (-1) 0 = N0) (hN0 : 1514 ≤ N0) (ha : al τ) {fl : Bool} {d : Nat} {c a : Int} {es : List Int} {css : List (List Int)} (h : FC τ N0 fl d c a es css) (hlen : es.length ≤ 1650) {x N1 : Int} {ds : List Int} (hx : XT τ (rg N1 (τ (-1) 0)) fl d x ds) (hN1 : N0 ≤ N1) (hlt : fcLt τ c N1) :
    ∃ τ', j2_add true (τ c 0) x τ = some (1, τ') ∧ ext τ0 τ' ∧ al τ' ∧ FC τ' N0 fl d c a (es ++ [x]) (css ++ [ds]) ∧ τ' 7 = τ 7 ∧ τ' 8 = τ 8 ∧ (τ (-1) 0 ≤ τ' (-1) 0 ∧ τ' (-1) 0 ≤ τ (-1) 0 + 1) ∧ τ' (-1) 1 - potF τ' c ≤ τ (-1) 1 - potF τ c := by
  obtain ⟨⟨⟨h1, h1'⟩, h2⟩, ⟨ha1, ha2⟩, h3, h5, h6', h8⟩ := h
  obtain ⟨u1, u2, u3⟩ := hlt
  have hr : ∀ y, rg N0 (τ (-1) 0) y → 1514 ≤ y := fun y hy => by unfold rg at hy; omega
  have xt := XT_tag hx
  have xr := XT_dyn hx
  have hxN : N1 ≤ x ∧ x < τ (-1) 0 := xr
  have r1 := h3.1.1
  have r2 := h3.2.1.1
  have g1 := h3.1.2
  have g2 := h3.2.1.2
  generalize hlc : τ c 0 = lc at *
  generalize har : τ lc 1 = ar at *
  unfold rg at r1 r2
  have d1 : c ≠ lc := fun e => by rw [e] at h2; omega
  have d2 : c ≠ ar := fun e => by rw [e] at h2; omega
  have d5 : lc ≠ ar := fun e => by rw [e] at g1; omega
  obtain ⟨s2, b1, b2, b3, b4, b5, b6, b7, b8, b9⟩ := add_ev ha (S := rg N0 (τ (-1) 0)) hr (lc := lc) (x := x) h3 (by rw [har]; exact h5) (by omega) ⟨by omega, xt⟩ (fun y hy => by
    obtain ⟨i, hi, rfl⟩ := List.getElem_of_mem hy
    exact XT_tag (h8 i _ _ (List.getElem?_eq_getElem hi) (List.getElem?_eq_getElem (by omega))))
  rw [har] at b4 b8
  have na : s2 lc 1 = ar ∨ s2 lc 1 = τ (-1) 0 := by rcases b4 with b4 | b4; exact Or.inl b4.1; exact Or.inr b4.1
  have N2le := b7.1
  have arrLt : s2 lc 1 < s2 (-1) 0 := by
    rcases b4 with ⟨b4, b4'⟩ | ⟨b4, b4'⟩
    · rw [b4, b4']; omega
    · rw [b4, b4']; omega
  have kk : ∀ y, rg N0 (τ (-1) 0) y → y ≠ lc → y ≠ ar → s2 y = τ y := fun y hy y3 y4 => by
    unfold rg at hy
    exact b3 y (by omega) y3 (by rcases na with e | e <;> rw [e] <;> omega)
  have f1 : s2 c = τ c := kk c ⟨h1, h1'⟩ d1 d2
  have S' : ∀ y, rg N0 (τ (-1) 0) y → rg N0 (s2 (-1) 0) y := fun y hy => by unfold rg at *; omega
  refine ⟨s2, b1, ?_, b2, ?_, ?_, ?_, by omega, ?_⟩
  · refine ⟨⟨by have := h0.1.1; omega, by have := h0.1.2; omega⟩, fun i hi => by rw [b9 i hi, h0.2.1 i hi], fun y y1 y2 y3 y4 => ?_, fun i i1 i2 i3 => ?_⟩
    · rw [b3 y y1 (by omega) (by rcases na with e | e <;> rw [e] <;> omega)]; exact h0.2.2.1 y y1 y2 y3 y4
    · rw [b3 7 (by omega) (by omega) (by rcases na with e | e <;> rw [e] <;> omega)]; exact h0.2.2.2 i i1 i2 i3
  · have hl2 := b5 (rg N0 (s2 (-1) 0)) S' (by unfold rg; omega) (by unfold rg; rcases na with e | e <;> rw [e] <;> omega)
    unfold FC
    rw [f1, hlc]
    refine ⟨⟨S' c ⟨h1, h1'⟩, h2⟩, ⟨ha1, ha2⟩, hl2, by rw [List.length_append, List.length_singleton]; exact ⟨b6.1, by have := b6.2; omega⟩, by simp [h6'], ?_⟩
    intro i y es' hi hj
    have more : ∀ z, (rg N0 (τ (-1) 0) z ∧ z ≠ c ∧ z ≠ lc ∧ z ≠ ar) → fcn s2 N0 c z := fun z hz => by
      have hz1 := hz.1
      unfold rg at hz1
      unfold fcn
      rw [f1, hlc]
      refine ⟨⟨hz1.1, by omega⟩, hz.2.1, hz.2.2.1, ?_⟩
      rcases na with e | e <;> rw [e] <;> omega
    by_cases q : i < es.length
    · rw [List.getElem?_append_left q] at hi
      rw [List.getElem?_append_left (by omega)] at hj
      have hx0 := h8 i y es' hi hj
      have sub : ∀ z, fcn τ N0 c z → rg N0 (τ (-1) 0) z ∧ z ≠ c ∧ z ≠ lc ∧ z ≠ ar := fun z hz => by
        unfold fcn at hz
        rw [hlc, har] at hz
        exact ⟨hz.1, hz.2⟩
      exact XT_kept (fun z hz => by
        have := sub z hz
        exact kk z this.1 this.2.2.1 this.2.2.2) (fun z hz => more z (sub z hz)) _ _ _ hx0
    · rw [List.getElem?_append_right (by omega)] at hi
      rw [List.getElem?_append_right (by omega)] at hj
      have hi0 : i = es.length := by
        have := (List.getElem?_eq_some_iff.mp hi).1
        simp at this
        omega
      rw [hi0] at hi hj
      rw [show es.length - css.length = 0 by omega] at hj
      simp at hi hj
      subst hi
      subst hj
      have sub : ∀ z, rg N1 (τ (-1) 0) z → rg N0 (τ (-1) 0) z ∧ z ≠ c ∧ z ≠ lc ∧ z ≠ ar := fun z hz => by
        unfold rg at *
        omega
      exact XT_kept (fun z hz => by
        have := sub z hz
        exact kk z this.1 this.2.2.1 this.2.2.2) (fun z hz => more z (sub z hz)) _ _ _ hx
  · rw [b3 7 (by omega) (by omega) (by rcases na with e | e <;> rw [e] <;> omega)]
  · rw [b3 8 (by omega) (by omega) (by rcases na with e | e <;> rw [e] <;> omega)]
  · unfold potF
    rw [f1, hlc, har]
    have := b8.2
    omega
theorem FC.done {N0 : Int} {fl : Bool} {d : Nat} {c a : Int} {es : List Int} {css : List (List Int)} (h : FC τ N0 fl d c a es css) (h1 : 0 < es.length) : XT τ (rg N0 (τ (-1) 0)) fl (d + 1) c (joins css (List.replicate (css.length - 1) (11 - a))) := by
  obtain ⟨⟨h1', h2⟩, ⟨ha1, ha2⟩, h3, h5, h6', h8⟩ := h
  refine ⟨h1', Or.inr (Or.inr (Or.inr ⟨h2, by rw [ha1]; exact ha2, es, css, h3, h1, h6', fun i x ds hi hj => XT_kept (fun _ _ => rfl) (fun y hy => hy.1) _ _ _ (h8 i x ds hi hj), by rw [ha1]⟩))⟩
theorem potF_b {N0 : Int} {fl : Bool} {d : Nat} {c a : Int} {es : List Int} {css : List (List Int)} (h : FC τ N0 fl d c a es css) : potF τ c ≤ 8 * es.length + 16 := by
  obtain ⟨-, -, -, h5, -⟩ := h
  unfold potF
  omega
theorem joinsR_snoc : ∀ (css : List (List Int)) (ds : List Int) (op : Int), 0 < css.length → joins (css ++ [ds]) (List.replicate ((css ++ [ds]).length - 1) op) = joins css (List.replicate (css.length - 1) op) ++ ds ++ [op]
  | [], _, _, h => by simp at h
  | c :: css, ds, op, h => by
    simp only [List.cons_append, joins, List.length_cons, List.length_append, List.length_nil, Nat.add_sub_cancel]
    rw [show css.length + (0 + 1) = css.length + 1 by omega, List.replicate_succ', List.zip_append (by simp), List.flatMap_append]
    simp
end
