set_option maxRecDepth 100000
/-! LAYER 2: asked -/
section
variable {τ τ' τ'' : XS} {s s' : MS} {N c a b : Int} {es fs : List Int} {ws vs : List (List Int)}
theorem stR.new {w w' : Int → Int} {n v : Int} (h : stR τ c w n v) (e0 : τ' c 0 = τ c 0) (e1 : τ' c 1 = τ c 1) (w0 : ∀ j : Int, 0 ≤ j → j < 8 → w' j = w j) (hv : v ≤ 7)
    (h1 : ∀ o : Int, 0 ≤ o → o < n → τ' (c + 1) o = w' (8 + 10 * o) ∧ 0 ≤ w' (8 + 10 * o) ∧ w' (8 + 10 * o) ≤ 9)
    (h2 : ∀ o : Int, 0 ≤ o → o < n → τ' (c + 2) o = w' (8 + 10 * o + 1) ∧ 0 ≤ w' (8 + 10 * o + 1) ∧ w' (8 + 10 * o + 1) ≤ 9)
    (h3 : ∀ o : Int, 0 ≤ o → o < n → τ' (c + 3) o = w' (8 + 10 * o + 2) ∧ 0 ≤ w' (8 + 10 * o + 2) ∧ w' (8 + 10 * o + 2) ≤ 9)
    (h4 : ∀ o : Int, 0 ≤ o → o < n → τ' (c + 5 + 1 + o) = τ (c + 5 + 1 + o)) (h5 : ∀ o u : Int, 0 ≤ o → o < n → 0 ≤ u → u < v → w' (8 + 10 * o + 3 + u) = w (8 + 10 * o + 3 + u)) : stR τ' c w' n v := by
  unfold stR
  rw [e0, e1, w0 0 (by omega) (by omega)]
  refine ⟨h.1, ⟨h.2.1.1, h.2.1.2.1, fun o o0 o1 => by rw [w0 (1 + o) (by omega) (by omega)]; exact h.2.1.2.2 o o0 o1⟩, fun o o0 o1 => ⟨h1 o o0 o1, h2 o o0 o1, h3 o o0 o1, fun u u0 u1 => ?_⟩⟩
  rw [h4 o o0 o1, h5 o u o0 o1 u0 u1]
  exact (h.2.2 o o0 o1).2.2.2 u u0 u1
theorem TH.lx (hl : lox τ' τ'') {m m' : MS} (hT : TH τ s N es fs ws vs τ' m) (ho : only [57, 58, 59] m m') : TH τ s N es fs ws vs τ'' m' := by
  obtain ⟨⟨q1, q2⟩, q3, q4, q5, q6, q7⟩ := hT
  have e48 := ho 48 (by decide)
  exact ⟨⟨q1.tr (onQ.lx hl), q2.tr (ho.mono (by decide))⟩, q3.lx hl (stn.of ho (by decide)) e48, q4.lx st99 hl (ho 60 (by decide)) e48, by rw [ho 60 (by decide)]; exact q5, fun j j0 j1 => by rw [ho 49 (by decide)]; exact q6 j j0 j1, fun j hj => by rw [e48]; exact q7 j hj⟩
/-- a place is set, in thought -/
theorem TH.put (h : INV τ s N es fs ws vs) {t : XS} {m : MS} (hT : TH τ s N es fs ws vs t m) {o v1 v2 : Int} (ho : 0 ≤ o ∧ o < ws.length) (hv1 : 0 ≤ v1 ∧ v1 ≤ 9) (hv2 : 0 ≤ v2 ∧ v2 ≤ 9) : TH τ s N es fs ws vs (ux (ux t 100 o v1) 101 o v2) (up (up m 48 (8 + 10 * o) v1) 48 (8 + 10 * o + 1) v2) := by
  obtain ⟨⟨q1, q2⟩, q3, q4, q5, q6, q7⟩ := hT
  have hn := h.le
  obtain ⟨t', et⟩ : ∃ t', ux (ux t 100 o v1) 101 o v2 = t' := ⟨_, rfl⟩
  obtain ⟨m', em⟩ : ∃ m', up (up m 48 (8 + 10 * o) v1) 48 (8 + 10 * o + 1) v2 = m' := ⟨_, rfl⟩
  have x1 : ∀ y, y ≠ 100 → y ≠ 101 → t' y = t y := fun y n1 n2 => by rw [← et, ux_cell n2, ux_cell n1]
  have x2 : ∀ j, t' 100 j = if j = o then v1 else t 100 j := fun j => by
    rw [← et, ux_cell (by decide)]
    by_cases e : j = o
    · rw [if_pos e, e, ux_s]
    · rw [if_neg e, ux_i _ _ _ _ e]
  have x3 : ∀ j, t' 101 j = if j = o then v2 else t 101 j := fun j => by
    rw [← et]
    by_cases e : j = o
    · rw [if_pos e, e, ux_s]
    · rw [if_neg e, ux_i _ _ _ _ e, ux_cell (by decide)]
  have oo : only [48] m m' := by rw [← em]; exact (only.up (by decide)).tr (only.up (by decide))
  have y2 : ∀ j, m' 48 j = if j = 8 + 10 * o + 1 then v2 else if j = 8 + 10 * o then v1 else m 48 j := fun j => by
    rw [← em]
    by_cases e : j = 8 + 10 * o + 1
    · rw [if_pos e, e, up_s]
    · rw [if_neg e, up_i _ _ _ _ e]
      by_cases e2 : j = 8 + 10 * o
      · rw [if_pos e2, e2, up_s]
      · rw [if_neg e2, up_i _ _ _ _ e2]
  have hq : onQ τ t' := q1.tr (fun y hy => x1 y (by omega) (by omega))
  have ym : ∀ j, j ≠ 8 + 10 * o + 1 → j ≠ 8 + 10 * o → m' 48 j = m 48 j := fun j n1 n2 => by rw [y2, if_neg n1, if_neg n2]
  rw [et, em]
  refine ⟨⟨hq, q2.tr (oo.mono (by decide))⟩, ⟨h.alq hq, ?_, st99, ?_⟩, q4.kp (fun y _ _ => x1 y (by omega) (by omega)) (by rw [x1 99 (by decide) (by decide)]) (oo 60 (by decide)) (fun j hj => ym j (by omega) (by omega)), by rw [oo 60 (by decide)]; exact q5, fun j j0 j1 => by rw [oo 49 (by decide)]; exact q6 j j0 j1, fun j hj => by rw [ym j (by omega) (by omega)]; exact q7 j hj⟩
  · rw [hq 0 (by omega)]
    exact h.2.2.2.1.kp h.1.1.1 (INV.kpq hq) (stn.of (q2.tr (oo.mono (show ∀ k ∈ [48], k ∈ thk by decide))) (by decide))
  · have hs := q3.2.2.2
    have e99 := x1 99 (by decide) (by decide)
    refine hs.new (by rw [e99]) (by rw [e99]) (fun j j0 j1 => ym j (by omega) (by omega)) (by omega) (fun j j0 j1 => ?_) (fun j j0 j1 => ?_) (fun j j0 j1 => ?_) (fun j j0 j1 => x1 _ (by omega) (by omega)) (fun j u j0 j1 u0 u1 => ym _ (by omega) (by omega))
    · rw [show (99 + 1 : Int) = 100 by decide, x2 j, y2]
      by_cases e : j = o
      · rw [if_pos e, if_neg (by omega), if_pos (by omega)]; omega
      · rw [if_neg e, if_neg (by omega), if_neg (by omega)]; exact (hs.2.2 j j0 j1).1
    · rw [show (99 + 2 : Int) = 101 by decide, x3 j, y2]
      by_cases e : j = o
      · rw [if_pos e, if_pos (by omega)]; omega
      · rw [if_neg e, if_neg (by omega), if_neg (by omega)]; exact (hs.2.2 j j0 j1).2.1
    · rw [x1 _ (by decide) (by decide), ym _ (by omega) (by omega)]; exact (hs.2.2 j j0 j1).2.2.1
theorem up_id {k : Nat} {i : Int} : up s k i (s k i) = s := by
  funext y j
  by_cases e : y = k
  · rw [e]
    by_cases e2 : j = i
    · rw [e2, up_s]
    · rw [up_i _ _ _ _ e2]
  · rw [up_row e]
/-- a set of sayings is laid at the first place -/
theorem asked_in (h : INV τ s N es fs ws vs) {x1 S : Int} (hS : 0 ≤ S ∧ S < 128) (k : Int → Int → XS → Option (Int × XS)) (k2 : Int → Int → MS → Option (Int × MS)) :
    ∀ (d : Nat) (o : Int) (t : XS) (m : MS) (f g : Nat), 0 ≤ o → o + d = ws.length → d + 1 ≤ f → d + 1 ≤ g → TH τ s N es fs ws vs t m → (∀ j : Int, o ≤ j → j < ws.length → m 48 (8 + 10 * j) = s 48 (8 + 10 * j) ∧ m 48 (8 + 10 * j + 1) = s 48 (8 + 10 * j + 1)) → ∃ t' m', x0_asked_L56 k f x1 S o t = k x1 S t' ∧ m_asked_L48 k2 g x1 S o m = k2 x1 S m' ∧ TH τ s N es fs ws vs t' m' := by
  have hn := h.le
  intro d
  induction d with
  | zero =>
    intro o t m f g hi hd hf hg hT h48
    have e : o = ws.length := by omega
    have e36 : m 36 2 = ws.length := by rw [hT.1.2 36 (by decide)]; exact hn.2.2.1
    rw [e]
    cases f with
    | zero => omega
    | succ f =>
      cases g with
      | zero => omega
      | succ g =>
        refine ⟨t, m, ?_, ?_, hT⟩
        · rw [x0_asked_L56]
          exact st_bind (sayings_ev hT.2.1.2.1.cty) (st_t (Int.le_refl _) rfl)
        · rw [m_asked_L48]
          exact st_bind (sayMany_ev e36) (st_t (Int.le_refl _) rfl)
  | succ d ih =>
    intro o t m f g hi hd hf hg hT h48
    have e36 : m 36 2 = ws.length := by rw [hT.1.2 36 (by decide)]; exact hn.2.2.1
    cases f with
    | zero => omega
    | succ f =>
      cases g with
      | zero => omega
      | succ g =>
        have io : i32 o = o := i32_id (by omega) (by omega)
        have oko : ok 6 o := by unfold ok; rw [io]; omega
        have nle : ¬ i32 (ws.length : Int) ≤ i32 o := by rw [io, i32_id (by omega) (by omega)]; omega
        have i1 : i32 (8 + 10 * o) = 8 + 10 * o := i32_id (by omega) (by omega)
        have i2 : i32 (8 + 10 * o + 1) = 8 + 10 * o + 1 := i32_id (by omega) (by omega)
        have ok1 : ok 219 (8 + 10 * o) := by unfold ok; rw [i1]; omega
        have ok2 : ok 219 (8 + 10 * o + 1) := by unfold ok; rw [i2]; omega
        obtain ⟨⟨c1, c1'⟩, ⟨c2, c2'⟩, -⟩ := h.2.2.2.2.1.1.2.2 o hi (by omega)
        obtain ⟨g1, g2⟩ := h48 o (Int.le_refl _) (by omega)
        have hb := fun t => hasb_ev t hS (o := o) ⟨hi, by omega⟩
        have x37 : t 37 o = s 48 (8 + 10 * o) := by rw [hT.1.1 37 (by omega)]; exact c1
        have x38 : t 38 o = s 48 (8 + 10 * o + 1) := by rw [hT.1.1 38 (by omega)]; exact c2
        cases q : bit S o with
        | true =>
          have hT2 := hT.put h ⟨hi, by omega⟩ (v1 := 0) (v2 := 0) ⟨by omega, by omega⟩ ⟨by omega, by omega⟩
          obtain ⟨t', m', a1, a2, a3⟩ := ih (o + 1) _ _ f g (by omega) (by omega) (by omega) (by omega) hT2 (fun j j0 j1 => by rw [up_i _ _ _ _ (by omega), up_i _ _ _ _ (by omega), up_i _ _ _ _ (by omega), up_i _ _ _ _ (by omega)]; exact h48 j (by omega) j1)
          have zb : ¬ i32 (b2i (bit S o)) = 0 := by rw [q]; exact n10
          refine ⟨t', m', ?_, ?_, a3⟩
          · rw [x0_asked_L56]
            refine st_bind (sayings_ev hT.2.1.2.1.cty) (st_f nle (st_bind (hb t) (st_bnd (st_f zb (st_gd oko (st_be (e' := ux t 100 o 0) ?_ (st_bind (hb _) (st_bnd (st_f zb (st_gd oko (st_be (e' := ux (ux t 100 o 0) 101 o 0) ?_ (st_bnd a1))))))))))))
            · rw [io]
            · rw [io]
          · rw [m_asked_L48]
            refine st_bind (sayMany_ev e36) (st_f nle (st_bnd (st_t ?_ (st_gd ok1 (st_be (e' := up m 48 (8 + 10 * o) 0) ?_ (st_gd ok2 (st_be (e' := up (up m 48 (8 + 10 * o) 0) 48 (8 + 10 * o + 1) 0) ?_ (st_bnd a2))))))))
            · rw [has_ev hS ⟨hi, by omega⟩, q]; rfl
            · rw [i1]
            · rw [i2]
        | false =>
          have hT2 := hT.put h ⟨hi, by omega⟩ (v1 := s 48 (8 + 10 * o)) (v2 := s 48 (8 + 10 * o + 1)) c1' c2'
          have em : up (up m 48 (8 + 10 * o) (s 48 (8 + 10 * o))) 48 (8 + 10 * o + 1) (s 48 (8 + 10 * o + 1)) = m := by rw [← g1, up_id, ← g2, up_id]
          rw [em] at hT2
          obtain ⟨t', m', a1, a2, a3⟩ := ih (o + 1) _ _ f g (by omega) (by omega) (by omega) (by omega) hT2 (fun j j0 j1 => h48 j (by omega) j1)
          have zb : i32 (b2i (bit S o)) = 0 := by rw [q]; exact i32_0
          refine ⟨t', m', ?_, ?_, a3⟩
          · rw [x0_asked_L56]
            refine st_bind (sayings_ev hT.2.1.2.1.cty) (st_f nle (st_bind (hb t) (st_bnd (st_t zb (st_gd oko (st_gd oko (st_be (e' := ux t 100 o (s 48 (8 + 10 * o))) ?_ (st_bind (hb _) (st_bnd (st_t zb (st_gd oko (st_gd oko (st_be (e' := ux (ux t 100 o (s 48 (8 + 10 * o))) 101 o (s 48 (8 + 10 * o + 1))) ?_ (st_bnd a1))))))))))))))
            · dsimp only; rw [io, x37]
            · dsimp only; rw [io, ux_cell (by decide), x38]
          · rw [m_asked_L48]
            refine st_bind (sayMany_ev e36) (st_f nle (st_bnd (st_f ?_ (st_bnd a2))))
            rw [has_ev hS ⟨hi, by omega⟩, q]
            decide
end
