set_option maxRecDepth 100000
/-! LAYER 2: names that stand: lists of named things of the system, words of the reference -/
section
variable {T : Int → Int} {n p : Int} {τ τ' : XS} {s s' : MS}
/-- a list of things with a name -/
def nmsX (τ : XS) (S : Int → Prop) (lc : Int) (es : List Int) (ws : List (List Int)) : Prop := lstX τ S lc es ∧ es.length = ws.length ∧ es.length ≤ 100 ∧ ∀ (i : Nat) (x : Int) (w : List Int), es[i]? = some x → ws[i]? = some w → (dyn x ∧ (τ x (-1) = 9 ∨ τ x (-1) = 10)) ∧ strX τ (τ x 0) w
theorem isNa_9 : isNa 9 := by decide
theorem isNa_10 : isNa 10 := by decide
theorem tg_na {x : Int} (h : dyn x ∧ (τ x (-1) = 9 ∨ τ x (-1) = 10)) : isNa (tg true τ x) := by
  rcases h.2 with q | q
  · rw [tgf (t := 9) (dyn_fre h.1) q]; exact isNa_9
  · rw [tgf (t := 10) (dyn_fre h.1) q]; exact isNa_10
theorem find9_go {S : Int → Prop} (hS : ∀ x, S x → dyn x) {a lc : Int} {w : List Int} {es : List Int} {ws : List (List Int)} (ha : strX τ a w) (h0 : 0 ≤ a) (hc : nmsX τ S lc es ws) :
    ∀ (d fuel i : Nat), i + d = ws.length → d < fuel → x9_find_L2 true lc a (fun (s18 : XS) => some ((-1), s18)) (fun (x2_19 : Int) (s20 : XS) => some (x2_19, s20)) fuel i τ = some (fnd w (ws.drop i) i, τ) := by
  obtain ⟨c1, c2, c3, c4⟩ := hc
  have g := tgf (t := 21) (dyn_fre (hS _ c1.1.1)) c1.1.2
  have hsz := size_ev hS c1
  intro d
  induction d with
  | zero =>
    intro fuel i hd hf
    obtain ⟨f, rfl⟩ : ∃ f, fuel = f + 1 := ⟨fuel - 1, by omega⟩
    rw [List.drop_eq_nil_of_le (by omega), x9_find_L2, fnd]
    refine st_gd g (st_bind hsz (st_t ?_ rfl))
    rw [i32_id (by omega) (by omega), i32_id (by omega) (by omega)]
    omega
  | succ d ih =>
    intro fuel i hd hf
    obtain ⟨f, rfl⟩ : ∃ f, fuel = f + 1 := ⟨fuel - 1, by omega⟩
    have e1 : ws[i]? = some (ws[i]'(by omega)) := List.getElem?_eq_getElem (by omega)
    have e2 : es[i]? = some (es[i]'(by omega)) := List.getElem?_eq_getElem (by omega)
    rw [List.drop_eq_getElem_cons (show i < ws.length by omega), fnd]
    obtain ⟨q1, q⟩ := c4 i _ _ e2 e1
    have hge := get_ev hS c1 e2
    have ih' := ih f (i + 1) (by omega) (by omega)
    generalize ws[i]'(by omega) = v at *
    generalize es[i]'(by omega) = x at *
    have eq := equals_ev q ha (Or.inr h0)
    have nl : ¬ i32 (es.length : Int) ≤ i32 (i : Int) := by
      rw [i32_id (by omega) (by omega), i32_id (by omega) (by omega)]
      omega
    rw [x9_find_L2]
    refine st_gd g (st_bind hsz (st_f nl (st_gd g (st_bind hge (st_gd (tg_na q1) (st_gd (tg_na q1) (st_gd (fre_ne q.1.1) (st_gd (tgf (t := 22) q.1.1 q.1.2) (st_bind eq ?_)))))))))
    by_cases cx : v = w
    · rw [if_pos cx]
      refine st_f ?_ rfl
      rw [decide_eq_true cx, b2i_1]
      exact (by decide : ¬ i32 1 = 0)
    · rw [if_neg cx]
      refine st_t ?_ (st_bnd ?_)
      · rw [decide_eq_false cx, b2i_0]
        exact (by decide : i32 0 = 0)
      · rw [show ((i : Int) + 1) = ((i + 1 : Nat) : Int) by omega]
        exact ih'
theorem find9_ev {S : Int → Prop} (hS : ∀ x, S x → dyn x) {a lc : Int} {w : List Int} {es : List Int} {ws : List (List Int)} (ha : strX τ a w) (h0 : 0 ≤ a) (hc : nmsX τ S lc es ws) : x9_find true lc a τ = some (fnd w ws 0, τ) := by
  unfold x9_find
  rw [bnd_r]
  have h4 := hc.2.2.1
  have h5 := hc.2.1
  have := find9_go hS ha h0 hc ws.length FU 0 (by omega) (by have := FU_ge; omega)
  rw [List.drop_zero] at this
  exact this
/-- the words of a kind, as the reference keeps them -/
def wdsM (s : MS) (kd : Int) (ws : List (List Int)) : Prop := s 36 kd = ws.length ∧ ws.length ≤ 7 ∧ ∀ (i : Nat) (w : List Int), ws[i]? = some w → s 37 (8 * kd + i) = nmV w ∧ w.length ≤ 6 ∧ ∀ c ∈ w, 97 ≤ c ∧ c ≤ 122
theorem nmV_400 {w : List Int} (h : w.length ≤ 6) (hc : ∀ c ∈ w, 97 ≤ c ∧ c ≤ 122) : 0 ≤ nmV w ∧ nmV w < 400000000 := by
  have hb := nmV_b _ _ rfl hc
  have hp : (27 : Int) ^ w.length ≤ 27 ^ 6 := by
    rcases (show w.length = 0 ∨ w.length = 1 ∨ w.length = 2 ∨ w.length = 3 ∨ w.length = 4 ∨ w.length = 5 ∨ w.length = 6 by omega) with h | h | h | h | h | h | h <;> rw [h] <;> decide
  exact ⟨hb.1, by omega⟩
theorem wdsM.nmB {kd : Int} {ws : List (List Int)} (h : wdsM s kd ws) : nmB s kd := by
  obtain ⟨h1, h2, h3⟩ := h
  refine ⟨by omega, fun j j0 j1 => ?_⟩
  have hl : j.toNat < ws.length := by omega
  obtain ⟨q1, q2, q3⟩ := h3 j.toNat _ (List.getElem?_eq_getElem hl)
  rw [show 8 * kd + j = 8 * kd + (j.toNat : Int) by omega, q1]
  exact nmV_400 q2 q3
theorem wdsM.used {kd : Int} {ws : List (List Int)} (h : wdsM s kd ws) {w : List Int} (hw : ∀ c ∈ w, 97 ≤ c ∧ c ≤ 122) : usedN s kd (nmV w) ↔ w ∈ ws := by
  obtain ⟨h1, h2, h3⟩ := h
  constructor
  · intro ⟨j, j0, j1, j2⟩
    have hl : j.toNat < ws.length := by omega
    obtain ⟨q1, q2, q3⟩ := h3 j.toNat _ (List.getElem?_eq_getElem hl)
    rw [show 8 * kd + j = 8 * kd + (j.toNat : Int) by omega, q1] at j2
    rw [← nmV_inj _ _ q3 hw j2]
    exact List.getElem_mem hl
  · intro hm
    obtain ⟨i, hi, e⟩ := List.getElem_of_mem hm
    obtain ⟨q1, -, -⟩ := h3 i w (by rw [List.getElem?_eq_getElem hi, e])
    exact ⟨(i : Int), by omega, by omega, q1⟩
/-- the reference looks a verb's name up -/
theorem lent7_go (K : Int → MS → Option (Int × MS)) {w : List Int} {ws : List (List Int)} (h : wdsM s 1 ws) (hw : ∀ c ∈ w, 97 ≤ c ∧ c ≤ 122) (hl : w.length ≤ 6) : ∀ (d fuel i : Nat), i + d = ws.length → d < fuel → m_lentTold0_L7 K fuel (nmV w) i s = K (if fnd w (ws.drop i) i = -1 then (ws.length : Int) else fnd w (ws.drop i) i) s := by
  obtain ⟨h1, h2, h3⟩ := h
  have o41 : ok 4 1 := by decide
  have hv := nmV_400 hl hw
  have z1 : i32 1 = 1 := by decide
  intro d
  induction d with
  | zero =>
    intro fuel i hd hf
    obtain ⟨f, rfl⟩ : ∃ f, fuel = f + 1 := ⟨fuel - 1, by omega⟩
    rw [List.drop_eq_nil_of_le (by omega), m_lentTold0_L7, fnd, if_pos rfl]
    refine st_gd o41 (st_t ?_ (by rw [show (i : Int) = (ws.length : Int) by omega]))
    rw [z1, h1, i32_id (by omega) (by omega), i32_id (by omega) (by omega)]
    omega
  | succ d ih =>
    intro fuel i hd hf
    obtain ⟨f, rfl⟩ : ∃ f, fuel = f + 1 := ⟨fuel - 1, by omega⟩
    have e1 : ws[i]? = some (ws[i]'(by omega)) := List.getElem?_eq_getElem (by omega)
    rw [List.drop_eq_getElem_cons (show i < ws.length by omega), fnd]
    obtain ⟨q1, q2, q3⟩ := h3 i _ e1
    have ih' := ih f (i + 1) (by omega) (by omega)
    generalize ws[i]'(by omega) = v at *
    have hv2 := nmV_400 q2 q3
    have nl : ¬ i32 (s 36 (i32 1)) ≤ i32 (i : Int) := by
      rw [z1, h1, i32_id (by omega) (by omega), i32_id (by omega) (by omega)]
      omega
    have ok8 : ok 32 (8 + (i : Int)) := by unfold ok; rw [i32_id (by omega) (by omega)]; omega
    have e37 : s 37 (i32 (8 + (i : Int))) = nmV v := by rw [i32_id (by omega) (by omega)]; exact q1
    rw [m_lentTold0_L7]
    refine st_gd o41 (st_f nl (st_gd ok8 ?_))
    rw [e37, i64_id (by omega) (by omega), i64_id (by omega) (by omega)]
    by_cases cx : v = w
    · rw [if_pos cx, if_pos (by rw [cx]), if_neg (by omega)]
    · rw [if_neg cx, if_neg (fun e => cx (nmV_inj _ _ q3 hw e))]
      refine st_bnd ?_
      rw [show ((i : Int) + 1) = ((i + 1 : Nat) : Int) by omega]
      exact ih'
end
