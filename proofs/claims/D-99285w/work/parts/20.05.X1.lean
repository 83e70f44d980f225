set_option maxRecDepth 100000
/-! the system: what keeps, the country's sizes -/
def dyn (c : Int) : Prop := (1 ≤ c ∧ c ≤ 5) ∨ 1514 ≤ c
def onx (cs : List Int) (τ τ' : XS) : Prop := ∀ c, c ∉ cs → τ' c = τ c
theorem onx.rf {cs : List Int} {τ : XS} : onx cs τ τ := fun _ _ => rfl
theorem onx.tr {cs : List Int} {τ τ' τ'' : XS} (h : onx cs τ τ') (h2 : onx cs τ' τ'') : onx cs τ τ'' := fun c hc => (h2 c hc).trans (h c hc)
theorem onx.mono {cs cs' : List Int} {τ τ' : XS} (h : onx cs τ τ') (hs : ∀ c, c ∈ cs → c ∈ cs') : onx cs' τ τ' := fun c hc => h c fun q => hc (hs c q)
theorem onx.up {cs : List Int} {τ : XS} {c i x : Int} (h : c ∈ cs) : onx cs τ (ux τ c i x) := fun j hj => by
  funext q
  exact ux_c _ _ _ _ (fun e => hj (e ▸ h))
theorem tg_dyn {τ : XS} {c : Int} (h : dyn c) : tg true τ c = (τ c (-1)).toNat := by
  have h1 : (stc c).1 = 0 := by
    unfold stc
    rcases h with h | h
    · rcases (show c = 1 ∨ c = 2 ∨ c = 3 ∨ c = 4 ∨ c = 5 by omega) with rfl | rfl | rfl | rfl | rfl <;> rfl
    · rw [if_neg (by omega), if_neg (by omega), if_neg (by omega), if_neg (by omega), if_neg (by omega)]
  unfold tg
  rw [if_neg (by rw [h1]; simp), if_neg (by rcases h with h | h <;> omega)]
theorem dyn_ne {c : Int} (h : dyn c) : ¬ c = -1 := by rcases h with h | h <;> omega
theorem dyn_nf {c : Int} (h : dyn c) : (c = -1) = False := eq_false (dyn_ne h)
/-- the country that stands: n sayings, v verbs -/
def cty (τ : XS) (n v : Int) : Prop := (dyn (τ 0 0) ∧ τ (τ 0 0) (-1) = 2) ∧ (dyn (τ (τ 0 0) 4) ∧ τ (τ (τ 0 0) 4) (-1) = 21 ∧ τ (τ (τ 0 0) 4) 2 = n) ∧ dyn (τ (τ 0 0) 5) ∧ τ (τ (τ 0 0) 5) (-1) = 21 ∧ τ (τ (τ 0 0) 5) 2 = v
def stand (cs : List Int) : Prop := ∀ c ∈ cs, ¬ dyn c ∧ c ≠ 0
theorem onx.dyn {cs : List Int} {τ τ' : XS} (h : onx cs τ τ') (hs : stand cs) {c : Int} (hc : dyn c) : τ' c = τ c := h c fun q => (hs c q).1 hc
theorem onx.zero {cs : List Int} {τ τ' : XS} (h : onx cs τ τ') (hs : stand cs) : τ' 0 = τ 0 := h 0 fun q => (hs 0 q).2 rfl
theorem cty.kept {τ τ' : XS} {n v : Int} (h : cty τ n v) {cs : List Int} (ho : onx cs τ τ') (hs : stand cs) : cty τ' n v := by
  obtain ⟨⟨a1, a2⟩, ⟨b1, b2, b3⟩, c1, c2, c3⟩ := h
  have e0 := ho.zero hs
  have e1 : τ' (τ 0 0) = τ (τ 0 0) := ho.dyn hs a1
  unfold cty
  rw [e0, e1, ho.dyn hs b1, ho.dyn hs c1]
  exact ⟨⟨a1, a2⟩, ⟨b1, b2, b3⟩, c1, c2, c3⟩
theorem sayings_ev {τ : XS} {n v : Int} (h : cty τ n v) : x0_sayings τ = some (n, τ) := by
  obtain ⟨⟨a1, a2⟩, ⟨b1, b2, b3⟩, -⟩ := h
  unfold x0_sayings j2_size
  have e1 : tg true τ (τ 0 0) = 2 := by rw [tg_dyn a1, a2]; rfl
  have e2 : tg true τ (τ (τ 0 0) 4) = 21 := by rw [tg_dyn b1, b2]; rfl
  rw [gd_t (dyn_ne a1), gd_t e1, gd_t (dyn_ne b1), gd_t e2, gd_t e2, bind_s, b3]
theorem verbs_ev {τ : XS} {n v : Int} (h : cty τ n v) : x0_verbs τ = some (v, τ) := by
  obtain ⟨⟨a1, a2⟩, -, b1, b2, b3⟩ := h
  unfold x0_verbs j2_size
  have e1 : tg true τ (τ 0 0) = 2 := by rw [tg_dyn a1, a2]; rfl
  have e2 : tg true τ (τ (τ 0 0) 5) = 21 := by rw [tg_dyn b1, b2]; rfl
  rw [gd_t (dyn_ne a1), gd_t e1, gd_t (dyn_ne b1), gd_t e2, gd_t e2, bind_s, b3]
theorem b2i_b (b : Bool) : 0 ≤ b2i b ∧ b2i b ≤ 1 := by cases b <;> decide
theorem hasb_ev {a o : Int} (τ : XS) (ha : 0 ≤ a ∧ a < 128) (ho : 0 ≤ o ∧ o < 7) : x0_has a o τ = some (b2i (bit a o), τ) := by
  unfold x0_has
  rw [has_ev ha ho]
  cases bit a o <;> (simp (disch := omega) only [gd_t, gd_T, gd_ok, not_false_eq_true, eq_self, bnd_r, bind_s, ite_t, ite_n, ite_T, ite_F, i32_id, b2i]; try rfl)
theorem abs_ev {a : Int} (τ : XS) (h : -1000000 ≤ a ∧ a ≤ 1000000) : j12_abs true a τ = some ((a.natAbs : Int), τ) := by
  unfold j12_abs
  by_cases c : 0 ≤ a
  · simp (disch := omega) only [gd_t, gd_T, gd_ok, not_false_eq_true, eq_self, bnd_r, bind_s, ite_t, ite_n, ite_T, ite_F, i32_id]; congr 2; omega
  · simp (disch := omega) only [gd_t, gd_T, gd_ok, not_false_eq_true, eq_self, bnd_r, bind_s, ite_t, ite_n, ite_T, ite_F, i32_id]; congr 2; omega
