set_option maxRecDepth 100000
/-! the system: tests that are read, evaluated -/
def sgc (s : Int) : Int := if s = 60 then 7 else if s = 62 then 8 else 9
/-- the object at a cell is the test that the codes tell -/
def XT (τ : XS) (S : Int → Prop) (fl : Bool) : Nat → Int → List Int → Prop
  | 0, _, _ => False
  | n + 1, c, cs => S c ∧
    ((τ c (-1) = 13 ∧ cs = [13]) ∨
     (τ c (-1) = 19 ∧ ∃ cs1 cs2, XV τ S fl 21 (τ c 0) cs1 ∧ XV τ S fl 21 (τ c 1) cs2 ∧ (τ c 2 = 60 ∨ τ c 2 = 62 ∨ τ c 2 = 61) ∧ cs = cs1 ++ cs2 ++ [sgc (τ c 2)]) ∨
     (τ c (-1) = 12 ∧ ∃ cs1, XT τ S fl n (τ c 0) cs1 ∧ cs = cs1 ++ [12]) ∨
     (τ c (-1) = 11 ∧ (τ c 1 = 0 ∨ τ c 1 = 1) ∧ ∃ (es : List Int) (css : List (List Int)), lstX τ S (τ c 0) es ∧ 0 < es.length ∧ css.length = es.length ∧ (∀ (i : Nat) (x : Int) (ds : List Int), es[i]? = some x → css[i]? = some ds → XT τ S fl n x ds) ∧ cs = joins css (List.replicate (css.length - 1) (11 - τ c 1))))
theorem XT_dyn {τ : XS} {S : Int → Prop} {fl : Bool} {n : Nat} {c : Int} {cs : List Int} (h : XT τ S fl n c cs) : S c := by
  cases n with
  | zero => cases h
  | succ n => exact h.1
theorem XT_kept {τ τ' : XS} {S S' : Int → Prop} {fl : Bool} (hd : ∀ c, S c → τ' c = τ c) (hs : ∀ c, S c → S' c) : ∀ (n : Nat) (c : Int) (cs : List Int), XT τ S fl n c cs → XT τ' S' fl n c cs := by
  intro n
  induction n with
  | zero => intro c cs h; cases h
  | succ n ih =>
    intro c cs h
    obtain ⟨h0, h⟩ := h
    refine ⟨hs _ h0, ?_⟩
    rw [hd c h0]
    rcases h with h | ⟨a, cs1, cs2, h1, h2, h3, h4⟩ | ⟨a, cs1, h1, h2⟩ | ⟨a, b, es, css, l1, l3, l5, l7, l8⟩
    · exact Or.inl h
    · exact Or.inr (Or.inl ⟨a, cs1, cs2, XV_more hs _ _ _ (XV_kept hd _ _ _ h1), XV_more hs _ _ _ (XV_kept hd _ _ _ h2), h3, h4⟩)
    · exact Or.inr (Or.inr (Or.inl ⟨a, cs1, ih _ _ h1, h2⟩))
    · exact Or.inr (Or.inr (Or.inr ⟨a, b, es, css, (l1.kept hd).more hs, l3, l5, fun i x ds q1 q2 => ih _ _ (l7 i x ds q1 q2), l8⟩))
theorem XT_mono {τ : XS} {S : Int → Prop} {fl : Bool} : ∀ (n : Nat) (c : Int) (cs : List Int), XT τ S fl n c cs → XT τ S fl (n + 1) c cs := by
  intro n
  induction n with
  | zero => intro c cs h; cases h
  | succ n ih =>
    intro c cs h
    obtain ⟨h0, h⟩ := h
    refine ⟨h0, ?_⟩
    rcases h with h | ⟨a, cs1, cs2, h1, h2, h3, h4⟩ | ⟨a, cs1, h1, h2⟩ | ⟨a, b, es, css, l1, l3, l5, l7, l8⟩
    · exact Or.inl h
    · exact Or.inr (Or.inl ⟨a, cs1, cs2, h1, h2, h3, h4⟩)
    · exact Or.inr (Or.inr (Or.inl ⟨a, cs1, ih _ _ h1, h2⟩))
    · exact Or.inr (Or.inr (Or.inr ⟨a, b, es, css, l1, l3, l5, fun i x ds q1 q2 => ih _ _ (l7 i x ds q1 q2), l8⟩))
theorem XT_ho {τ : XS} {S : Int → Prop} (hS : ∀ x, S x → dyn x) {fl : Bool} {n : Nat} {c : Int} {cs : List Int} (h : XT τ S fl n c cs) : isHo (tg true τ c) := by
  cases n with
  | zero => cases h
  | succ n =>
    obtain ⟨h0, h⟩ := h
    unfold isHo
    rcases h with h | h | h | h <;> rw [tgd (hS _ h0) h.1] <;> decide
theorem fold_all {a : Int} (ha : a = 0 ∨ a = 1) : ∀ (qs : List (List Int × Int)) (vs : List Int) (v : Int), qs.length = vs.length → (∀ q ∈ qs, q.2 = 11 - a) → (v = 0 ∨ v = 1) → (∀ w ∈ vs, w = 0 ∨ w = 1) → (qs.zip vs).foldl (fun a q => jn q.1.2 a q.2) v = if v = a ∧ ∀ w ∈ vs, w = a then a else 1 - a
  | [], [], v, _, _, hv, _ => by
    simp only [List.zip_nil_left, List.foldl_nil, List.not_mem_nil, false_implies, implies_true, and_true]
    split
    · assumption
    · omega
  | [], _ :: _, v, h, _, _, _ => by simp at h
  | _ :: _, [], v, h, _, _, _ => by simp at h
  | q :: qs, w :: vs, v, hl, hq, hv, hw => by
    have h0 := hq q List.mem_cons_self
    have hw0 := hw w List.mem_cons_self
    have hj : jn (11 - a) v w = if v = a ∧ w = a then a else 1 - a := by
      rcases ha with rfl | rfl <;> rcases hv with rfl | rfl <;> rcases hw0 with rfl | rfl <;> decide
    rw [List.zip_cons_cons, List.foldl_cons, h0, hj, fold_all ha qs vs _ (by simpa using hl) (fun q h => hq q (List.mem_cons_of_mem _ h)) (by split <;> omega) (fun w h => hw w (List.mem_cons_of_mem _ h))]
    by_cases c : v = a ∧ w = a
    · rw [if_pos c]
      simp [c.1, c.2]
    · rw [if_neg c, if_neg (by omega), if_neg (by
        intro h
        exact c ⟨h.1, h.2 w List.mem_cons_self⟩)]
section EvalT
variable (τ0 : XS) (S : Int → Prop) (mo : Int) (fl : Bool) (pt : Int → Int) (of : Int → Int → Int) (n0 : Nat)
theorem x_ho_ev (hS : ∀ x, S x → dyn x) (hn0 : 21 + n0 ≤ 64) (hmo : isMo mo) (hpt : ∀ τ, onx (chg fl) τ0 τ → ∀ k : Int, alw fl k → (-1000000000 ≤ τ (mo + 1) k ∧ τ (mo + 1) k ≤ 1000000000) ∧ clp (τ (mo + 1) k) = pt k)
    (hof : fl = true → ∀ τ, onx (chg fl) τ0 τ → ∀ m, n0 ≤ m → ∀ w k : Int, (w = 0 ∨ w = 1) → (-1000000 ≤ k ∧ k ≤ 1000000) → ∃ τ', x0_looked (x_at m) w k τ = some (of w k, τ') ∧ onx (chg fl) τ τ' ∧ (-1000000000 ≤ of w k ∧ of w k ≤ 1000000000)) :
    ∀ (n : Nat) (c : Int) (cs : List Int), XT τ0 S fl n c cs → ∀ τ, onx (chg fl) τ0 τ → ∀ m, n ≤ m → ∃ v τ', x_ho m c mo τ = some (v, τ') ∧ onx (chg fl) τ τ' ∧ isV pt of cs v ∧ (v = 0 ∨ v = 1) := by
  have hat := x_at_ev τ0 S mo fl pt of n0 hS hmo hpt hof
  intro n
  induction n with
  | zero => intro c cs h; cases h
  | succ n ih =>
    intro c cs hX τ hτ m hm
    obtain ⟨m, rfl⟩ : ∃ g, m = g + 1 := ⟨m - 1, by omega⟩
    obtain ⟨hc, hX⟩ := hX
    have hc := hS _ hc
    have ec : ∀ τ', onx (chg fl) τ τ' → τ' c = τ0 c := fun τ' h => by rw [chg_dyn fl h c hc, chg_dyn fl hτ c hc]
    have ec0 := ec τ onx.rf
    rw [x_ho]
    unfold x_ho_D
    rcases hX with ⟨t, e⟩ | ⟨t, cs1, cs2, h1, h2, h3, h4⟩ | ⟨t, cs1, h1, h2⟩ | ⟨t, ta, es, css, l1, l3, l5, l7, l8⟩
    · have tt := tgd (τ := τ) (t := 13) hc (by rw [ec0]; exact t)
      simp only [tt]
      refine ⟨1, τ, ?_, onx.rf, by rw [e]; exact isV_all, Or.inr rfl⟩
      simp only [Nat.reduceEqDiff, if_false, if_true]
      unfold x15_holds
      rw [gd_t hmo]
    · have tt : ∀ τ', onx (chg fl) τ τ' → tg true τ' c = 19 := fun τ' h => tgd hc (by rw [ec τ' h]; exact t)
      simp only [tt τ onx.rf]
      obtain ⟨v1, τ1, a1, a2, a3, a4⟩ := hat _ _ _ h1 τ hτ 64 (by omega)
      obtain ⟨v2, τ2, b1, b2, b3, b4⟩ := hat _ _ _ h2 τ1 (hτ.tr a2) 64 (by omega)
      have d1 := hS _ (XV_dyn h1)
      have d2 := hS _ (XV_dyn h2)
      have q3 := ec τ2 (a2.tr b2)
      refine ⟨jn (sgc (τ0 c 2)) v1 v2, τ2, ?_, a2.tr b2, ?_, ?_⟩
      · simp only [Nat.reduceEqDiff, if_false, if_true]
        unfold x22_holds
        rcases h3 with h3 | h3 | h3
        · simp (disch := omega) only [gd_t, gd_T, gd_ok, not_false_eq_true, eq_self, bnd_r, bind_s, ite_t, ite_n, ite_T, ite_F, i32_id, gd_t hmo, tt τ onx.rf, ec0, dyn_nf d1, a1, tt τ1 a2, ec τ1 a2, dyn_nf d2, b1, tt τ2 (a2.tr b2), q3, h3, i64_id]
          rw [show sgc 60 = 7 from rfl, jn_7]
          by_cases q : v2 ≤ v1
          · rw [ite_t q, decide_eq_false (by omega)]; rfl
          · rw [ite_n q, decide_eq_true (by omega)]; rfl
        · simp (disch := omega) only [gd_t, gd_T, gd_ok, not_false_eq_true, eq_self, bnd_r, bind_s, ite_t, ite_n, ite_T, ite_F, i32_id, gd_t hmo, tt τ onx.rf, ec0, dyn_nf d1, a1, tt τ1 a2, ec τ1 a2, dyn_nf d2, b1, tt τ2 (a2.tr b2), q3, h3, i64_id]
          rw [show sgc 62 = 8 from rfl, jn_8]
          by_cases q : v1 ≤ v2
          · rw [ite_t q, decide_eq_false (by omega)]; rfl
          · rw [ite_n q, decide_eq_true (by omega)]; rfl
        · simp (disch := omega) only [gd_t, gd_T, gd_ok, not_false_eq_true, eq_self, bnd_r, bind_s, ite_t, ite_n, ite_T, ite_F, i32_id, gd_t hmo, tt τ onx.rf, ec0, dyn_nf d1, a1, tt τ1 a2, ec τ1 a2, dyn_nf d2, b1, tt τ2 (a2.tr b2), q3, h3, i64_id]
          rw [show sgc 61 = 9 from rfl, jn_9]
          by_cases q : v1 = v2
          · rw [ite_t q, decide_eq_true q]; rfl
          · rw [ite_n q, decide_eq_false q]; rfl
      · rw [h4]
        refine isV_jn a3 b3 ?_ ?_ <;> (unfold sgc; rcases h3 with h3 | h3 | h3 <;> rw [h3] <;> decide)
      · rcases h3 with h3 | h3 | h3
        · rw [h3, show sgc 60 = 7 from rfl, jn_7]; cases decide (v1 < v2) <;> simp [b2i]
        · rw [h3, show sgc 62 = 8 from rfl, jn_8]; cases decide (v2 < v1) <;> simp [b2i]
        · rw [h3, show sgc 61 = 9 from rfl, jn_9]; cases decide (v1 = v2) <;> simp [b2i]
    · have tt : ∀ τ', onx (chg fl) τ τ' → tg true τ' c = 12 := fun τ' h => tgd hc (by rw [ec τ' h]; exact t)
      simp only [tt τ onx.rf]
      obtain ⟨v1, τ1, a1, a2, a3, a4⟩ := ih _ _ h1 τ hτ m (by omega)
      have d1 := hS _ (XT_dyn h1)
      refine ⟨1 - v1, τ1, ?_, a2, by rw [h2]; exact isV_not a3, by omega⟩
      simp only [Nat.reduceEqDiff, if_false, if_true]
      unfold x14_holds
      rcases a4 with rfl | rfl
      · simp (disch := omega) only [gd_t, gd_T, gd_ok, not_false_eq_true, eq_self, bnd_r, bind_s, ite_t, ite_n, ite_T, ite_F, i32_id, gd_t hmo, tt τ onx.rf, ec0, dyn_nf d1, a1]; rfl
      · simp (disch := omega) only [gd_t, gd_T, gd_ok, not_false_eq_true, eq_self, bnd_r, bind_s, ite_t, ite_n, ite_T, ite_F, i32_id, gd_t hmo, tt τ onx.rf, ec0, dyn_nf d1, a1]; rfl
    · have tt : ∀ τ', onx (chg fl) τ τ' → tg true τ' c = 11 := fun τ' h => tgd hc (by rw [ec τ' h]; exact t)
      simp only [tt τ onx.rf]
      generalize hA : τ0 c 1 = a at ta l8
      have L1 : ∀ τ', onx (chg fl) τ0 τ' → lstX τ' S (τ0 c 0) es := fun τ' h => l1.kept (fun c q => chg_dyn fl h c (hS c q))
      have dl := hS _ l1.1.1
      have tl : ∀ τ', onx (chg fl) τ0 τ' → tg true τ' (τ0 c 0) = 21 := fun τ' h => tgd dl (L1 τ' h).1.2
      have hlen : (es.length : Int) ≤ 900000 := by obtain ⟨-, -, -, q1, q2, -⟩ := l1; omega
      have hV0 : ∀ i : Nat, ∃ v : Int, (v = 0 ∨ v = 1) ∧ ∀ ds, css[i]? = some ds → isV pt of ds v := by
        intro i
        by_cases q : i < es.length
        · obtain ⟨v, τ', -, -, e3, e4⟩ := ih _ _ (l7 i _ _ (List.getElem?_eq_getElem q) (List.getElem?_eq_getElem (by omega))) τ hτ m (by omega)
          refine ⟨v, e4, fun ds hd => ?_⟩
          rw [List.getElem?_eq_getElem (show i < css.length by omega)] at hd
          cases hd
          exact e3
        · refine ⟨0, Or.inl rfl, fun ds hd => ?_⟩
          rw [List.getElem?_eq_none (by omega)] at hd
          cases hd
      obtain ⟨V, hV⟩ := Classical.axiomOfChoice hV0
      have loop : ∀ (d fuel i : Nat) (z : XS), i + d = es.length → d < fuel → onx (chg fl) τ0 z → ∃ v z', x13_holds_L2 (x_ho m) c mo (fun (s21 : XS) => gd (tg true s21 c = 11) <| gd (bz (s21 c 1)) <| some ((s21 c 1), s21)) (fun (s24 : XS) => gd (tg true s24 c = 11) <| if i32 (s24 c 1) = 0 then some (1, s24) else some (0, s24)) fuel i z = some (v, z') ∧ onx (chg fl) z z' ∧ ((∀ j : Nat, i ≤ j → j < es.length → V j = a) → v = a) ∧ (¬ (∀ j : Nat, i ≤ j → j < es.length → V j = a) → v = 1 - a) := by
        intro d
        induction d with
        | zero =>
          intro fuel i z hd hf hz
          obtain ⟨f, rfl⟩ : ∃ f, fuel = f + 1 := ⟨fuel - 1, by omega⟩
          have hz' : onx (chg fl) τ z := fun q hq => by rw [hz q hq, hτ q hq]
          have ba : bz a := by rcases ta with rfl | rfl <;> decide
          refine ⟨a, z, ?_, onx.rf, fun _ => rfl, fun h => absurd (fun j h1 h2 => by omega) h⟩
          rw [x13_holds_L2]
          simp (disch := omega) only [gd_t, gd_T, gd_ok, not_false_eq_true, eq_self, bnd_r, bind_s, ite_t, ite_n, ite_T, ite_F, i32_id, tt z hz', ec z hz', dyn_nf dl, tl z hz, size_ev hS (L1 z hz), hA, gd_t ba]
        | succ d ihd =>
          intro fuel i z hd hf hz
          obtain ⟨f, rfl⟩ : ∃ f, fuel = f + 1 := ⟨fuel - 1, by omega⟩
          have hz' : onx (chg fl) τ z := fun q hq => by rw [hz q hq, hτ q hq]
          have ex : es[i]? = some (es[i]'(by omega)) := List.getElem?_eq_getElem (by omega)
          have ed : css[i]? = some (css[i]'(by omega)) := List.getElem?_eq_getElem (by omega)
          have hx := l7 i _ _ ex ed
          obtain ⟨v, τ1, e1, e2, e3, e4⟩ := ih _ _ hx z hz m (by omega)
          have hv : v = V i := isV_inj e3 ((hV i).2 _ ed)
          have hge := get_ev hS (L1 z hz) ex
          have hox := XT_ho hS (XT_kept (S' := S) (fun c q => chg_dyn fl hz c (hS c q)) (fun _ q => q) _ _ _ hx)
          generalize es[i]'(by omega) = x at *
          have e2' := hz'.tr e2
          rw [x13_holds_L2]
          by_cases cv : v = a
          · obtain ⟨v2, z', g1, g2, g3, g4⟩ := ihd f (i + 1) τ1 (by omega) (by omega) (hz.tr e2)
            have hiff : (∀ j : Nat, i ≤ j → j < es.length → V j = a) ↔ ∀ j : Nat, i + 1 ≤ j → j < es.length → V j = a := by
              constructor
              · intro h j h1 h2; exact h j (by omega) h2
              · intro h j h1 h2
                by_cases q : j = i
                · rw [q, ← hv, cv]
                · exact h j (by omega) h2
            refine ⟨v2, z', ?_, e2.tr g2, fun h => g3 (hiff.mp h), fun h => g4 (fun h' => h (hiff.mpr h'))⟩
            simp (disch := omega) only [gd_t, gd_T, gd_ok, not_false_eq_true, eq_self, bnd_r, bind_s, ite_t, ite_n, ite_T, ite_F, i32_id, tt z hz', ec z hz', dyn_nf dl, tl z hz, size_ev hS (L1 z hz), hge, gd_t hox, e1, tt τ1 e2', ec τ1 e2', hA, cv]
            rw [show ((i : Int) + 1) = ((i + 1 : Nat) : Int) by omega]
            exact g1
          · refine ⟨1 - a, τ1, ?_, e2, fun h => absurd (by rw [hv]; exact h i (Nat.le_refl _) (by omega)) cv, fun _ => rfl⟩
            rcases ta with rfl | rfl
            · have : v = 1 := by omega
              simp (disch := omega) only [gd_t, gd_T, gd_ok, not_false_eq_true, eq_self, bnd_r, bind_s, ite_t, ite_n, ite_T, ite_F, i32_id, tt z hz', ec z hz', dyn_nf dl, tl z hz, size_ev hS (L1 z hz), hge, gd_t hox, e1, tt τ1 e2', ec τ1 e2', hA, this]
              rfl
            · have : v = 0 := by omega
              simp (disch := omega) only [gd_t, gd_T, gd_ok, not_false_eq_true, eq_self, bnd_r, bind_s, ite_t, ite_n, ite_T, ite_F, i32_id, tt z hz', ec z hz', dyn_nf dl, tl z hz, size_ev hS (L1 z hz), hge, gd_t hox, e1, tt τ1 e2', ec τ1 e2', hA, this]
              rfl
      obtain ⟨v, z', g1, g2, g3, g4⟩ := loop es.length FU 0 τ (by omega) (by have := FU_ge; omega) hτ
      refine ⟨v, z', ?_, g2, ?_, ?_⟩
      · simp only [if_true]
        unfold x13_holds
        rw [gd_t hmo, bnd_r]
        exact g1
      · cases css with
        | nil => simp at l5; omega
        | cons c0 css =>
          have hz : (css.zip (List.replicate css.length (11 - a))).length = css.length := by simp
          have key := joins_go pt of (css.zip (List.replicate css.length (11 - a))) ((List.range css.length).map fun (i : Nat) => V (i + 1)) (V 0) c0 ((hV 0).2 c0 rfl) (by rw [hz]; simp) (fun i q w h1 h2 => by
            obtain ⟨q1, q2⟩ := List.getElem?_zip_eq_some.mp h1
            have hi := (List.getElem?_eq_some_iff.mp q1).1
            rw [List.getElem?_map, List.getElem?_range hi] at h2
            have hw : V (i + 1) = w := by simpa using h2
            have hq2 : q.2 = 11 - a := List.eq_of_mem_replicate (List.mem_of_getElem? q2)
            refine ⟨?_, by omega, by omega⟩
            rw [← hw]
            exact (hV (i + 1)).2 q.1 (by simpa using q1))
          rw [fold_all ta _ _ _ (by rw [hz]; simp) (fun q hq => List.eq_of_mem_replicate (List.of_mem_zip hq).2) (hV 0).1 (fun w hw => by
            obtain ⟨i, -, rfl⟩ := List.mem_map.mp hw
            exact (hV (i + 1)).1)] at key
          rw [l8]
          unfold joins
          rw [show (c0 :: css).length - 1 = css.length by simp]
          have hiff : (V 0 = a ∧ ∀ w ∈ (List.range css.length).map fun (i : Nat) => V (i + 1), w = a) ↔ ∀ j : Nat, 0 ≤ j → j < es.length → V j = a := by
            constructor
            · intro ⟨h1, h2⟩ j _ hj
              cases j with
              | zero => exact h1
              | succ j => exact h2 _ (List.mem_map.mpr ⟨j, List.mem_range.mpr (by simp at l5; omega), rfl⟩)
            · intro h
              refine ⟨h 0 (Nat.le_refl _) l3, fun w hw => ?_⟩
              obtain ⟨i, hi, rfl⟩ := List.mem_map.mp hw
              have := List.mem_range.mp hi
              exact h (i + 1) (Nat.zero_le _) (by simp at l5; omega)
          by_cases hq : ∀ j : Nat, 0 ≤ j → j < es.length → V j = a
          · rw [if_pos (hiff.mpr hq)] at key
            rw [g3 hq]
            exact key
          · rw [if_neg (fun h => hq (hiff.mp h))] at key
            rw [g4 hq]
            exact key
      · by_cases hq : ∀ j : Nat, 0 ≤ j → j < es.length → V j = a
        · rw [g3 hq]; exact ta
        · rw [g4 hq]; omega
end EvalT
