set_option maxRecDepth 100000
/-! LAYER 2: calls of both: has, needed -/
/-- how many bits -/
def popF (a : Int) : Int := b2i (bit a 0) + b2i (bit a 1) + b2i (bit a 2) + b2i (bit a 3) + b2i (bit a 4) + b2i (bit a 5) + b2i (bit a 6)
def bcV (a1 : Int) : Int :=
  let x0_2 := a1 - (iand (iushr a1 1) 1431655765)
  let x0_3 := (iand x0_2 858993459) + (iand (iushr x0_2 2) 858993459)
  let x0_4 := iand (x0_3 + (iushr x0_3 4)) 252645135
  let x0_5 := x0_4 + (iushr x0_4 8)
  let x0_6 := x0_5 + (iushr x0_5 16)
  iand x0_6 63
theorem bcV_p {a : Int} (h : 0 ≤ a ∧ a < 128) : bcV a = popF a := fin1 (P := fun a => bcV a = popF a) (by decide +kernel) h
theorem bitCount_ev {a : Int} (τ : XS) (h : 0 ≤ a ∧ a < 128) : j16_bitCount true a τ = some (popF a, τ) := by
  rw [← bcV_p h]
  rfl
theorem low_p {a : Int} (h : 0 ≤ a ∧ a < 128) : (a ≠ 0 → popF (iand a (a - 1)) + 1 = popF a ∧ 0 ≤ iand a (a - 1) ∧ iand a (a - 1) < a) ∧ (a = 0 → popF a = 0) := fin1 (P := fun a => (a ≠ 0 → popF (iand a (a - 1)) + 1 = popF a ∧ 0 ≤ iand a (a - 1) ∧ iand a (a - 1) < a) ∧ (a = 0 → popF a = 0)) (by decide +kernel) h
theorem pop_b {a : Int} (h : 0 ≤ a ∧ a < 128) : 0 ≤ popF a ∧ popF a ≤ 7 := fin1 (P := fun a => 0 ≤ popF a ∧ popF a ≤ 7) (by decide +kernel) h
theorem bits_go {s : MS} (K : Int → MS → Option (Int × MS)) : ∀ (m : Nat) (a k : Int) (fuel : Nat), (0 ≤ a ∧ a < 128) → a.toNat ≤ m → m < fuel → m_bits_L4 K fuel k a s = K (k + popF a) s := by
  intro m
  induction m with
  | zero =>
    intro a k fuel ha hm hf
    obtain ⟨g, rfl⟩ : ∃ g, fuel = g + 1 := ⟨fuel - 1, by omega⟩
    have a0 : a = 0 := by omega
    rw [m_bits_L4, (low_p ha).2 a0, Int.add_zero]
    exact st_t (by rw [a0]; exact i32_0) rfl
  | succ m ih =>
    intro a k fuel ha hm hf
    obtain ⟨g, rfl⟩ : ∃ g, fuel = g + 1 := ⟨fuel - 1, by omega⟩
    rw [m_bits_L4]
    by_cases a0 : a = 0
    · rw [(low_p ha).2 a0, Int.add_zero]
      exact st_t (by rw [a0]; exact i32_0) rfl
    · obtain ⟨q1, q2, q3⟩ := (low_p ha).1 a0
      refine st_f (by rw [i32_id (by omega) (by omega)]; exact a0) (st_bnd (st_bnd ?_))
      rw [ih _ _ g (by omega) (by omega) (by omega), show k + 1 + popF (iand a (a - 1)) = k + popF a by omega]
theorem bits_ev {s : MS} {a : Int} (h : 0 ≤ a ∧ a < 128) : m_bits a s = some (popF a, s) := by
  unfold m_bits
  refine st_bnd ?_
  rw [bits_go _ a.toNat a 0 FU h (Nat.le_refl _) (by have := FU_ge; omega), Int.zero_add]
theorem pop_sk : ∀ (n : Fin 8) (a : Fin 128), (∀ o : Fin 7, n.val ≤ o.val → bit a.val o.val = false) → popF a.val + popF (skV n.val a.val) = n.val := by decide +kernel
section
variable {τ τ' : XS} {s s' : MS} {N : Int} {es fs : List Int} {ws vs : List (List Int)} {a b c : Int}
theorem pop_sack (h : INV τ s N es fs ws vs) : popF (τ 36 1) = vs.length - popF (skV vs.length (τ 36 1)) := by
  have hn := h.le
  obtain ⟨-, ⟨l1, l2, l3⟩, -⟩ := h.2.2.2.2.1.1
  have q := pop_sk ⟨vs.length, by omega⟩ ⟨(τ 36 1).toNat, by omega⟩ (fun o ho => by
    dsimp only at *
    rw [show (((τ 36 1).toNat : Nat) : Int) = τ 36 1 by omega]
    exact l2 o.val (by omega) (by omega) (by omega))
  dsimp only at q
  rw [show (((τ 36 1).toNat : Nat) : Int) = τ 36 1 by omega] at q
  omega
theorem cnt_in (h : INV τ s N es fs ws vs) {o : Int} (ho : 0 ≤ o ∧ o < ws.length) : ∀ (d : Nat) (v k : Int), 0 ≤ v → v + d = vs.length → ∃ k', (∀ K (f : Nat), d < f → x0_has_2_L102 K f k o v τ = K k' o τ) ∧ ∀ K (f : Nat), d < f → m_countAll_L14 K f k o v s = K k' o s := by
  have hn := h.le
  intro d
  induction d with
  | zero =>
    intro v k h0 hd
    have le : i32 (vs.length : Int) ≤ i32 v := by rw [i32_id (by omega) (by omega), i32_id (by omega) (by omega)]; omega
    refine ⟨k, fun K f hf => ?_, fun K f hf => ?_⟩
    · obtain ⟨g, rfl⟩ : ∃ g, f = g + 1 := ⟨f - 1, by omega⟩
      rw [x0_has_2_L102]
      exact st_bind (verbs_ev h.2.2.2.1.cty) (st_t le rfl)
    · obtain ⟨g, rfl⟩ : ∃ g, f = g + 1 := ⟨f - 1, by omega⟩
      rw [m_countAll_L14]
      exact st_bind (verbMany_ev hn.2.2.2) (st_t le rfl)
  | succ d ih =>
    intro v k h0 hd
    have iv : i32 v = v := i32_id (by omega) (by omega)
    have io : i32 o = o := i32_id (by omega) (by omega)
    have nle : ¬ i32 (vs.length : Int) ≤ i32 v := by rw [iv, i32_id (by omega) (by omega)]; omega
    have g := (h.2.2.2.2.1.1.2.2 o ho.1 ho.2).2.2.2 v h0 (by omega)
    have ip : i32 (8 + 10 * o + 3 + v) = 8 + 10 * o + 3 + v := i32_id (by omega) (by omega)
    obtain ⟨k', q1, q2⟩ := ih (v + 1) (k + s 48 (8 + 10 * o + 3 + v)) (by omega) (by omega)
    refine ⟨k', fun K f hf => ?_, fun K f hf => ?_⟩
    · obtain ⟨g', rfl⟩ : ∃ g, f = g + 1 := ⟨f - 1, by omega⟩
      rw [x0_has_2_L102]
      refine st_bind (verbs_ev h.2.2.2.1.cty) (st_f nle (st_gd (by unfold ok; rw [io]; omega) (st_gd (by unfold ok; rw [iv]; omega) (st_be (e' := k + s 48 (8 + 10 * o + 3 + v)) ?_ (st_bnd (q1 K g' (by omega)))))))
      dsimp only
      rw [io, iv, show (41 : Int) + 1 + o = 36 + 5 + 1 + o by omega, g.1]
    · obtain ⟨g', rfl⟩ : ∃ g, f = g + 1 := ⟨f - 1, by omega⟩
      rw [m_countAll_L14]
      refine st_bind (verbMany_ev hn.2.2.2) (st_f nle (st_bind (z := (s 48 (8 + 10 * o + 3 + v), s)) ?_ (st_bnd (st_bnd (q2 K g' (by omega))))))
      unfold m_givenOf
      refine st_gd (by unfold ok; rw [ip]; omega) ?_
      dsimp only
      rw [ip]
theorem cnt_out (h : INV τ s N es fs ws vs) : ∀ (d : Nat) (o k : Int), 0 ≤ o → o + d = ws.length → ∃ k', (∀ (f : Nat), d < f → x0_has_2_L91 (fun (x2_40 : Int) (s41 : XS) => some (x2_40, s41)) f k o τ = some (k', τ)) ∧ ∀ (f : Nat), d < f → m_countAll_L4 (fun (x1_27 : Int) (s28 : MS) => some (x1_27, s28)) f k o s = some (k', s) := by
  have hn := h.le
  intro d
  induction d with
  | zero =>
    intro o k h0 hd
    have le : i32 (ws.length : Int) ≤ i32 o := by rw [i32_id (by omega) (by omega), i32_id (by omega) (by omega)]; omega
    refine ⟨k, fun f hf => ?_, fun f hf => ?_⟩
    · obtain ⟨g, rfl⟩ : ∃ g, f = g + 1 := ⟨f - 1, by omega⟩
      rw [x0_has_2_L91]
      exact st_bind (sayings_ev h.2.2.2.1.cty) (st_t le rfl)
    · obtain ⟨g, rfl⟩ : ∃ g, f = g + 1 := ⟨f - 1, by omega⟩
      rw [m_countAll_L4]
      exact st_bind (sayMany_ev hn.2.2.1) (st_t le rfl)
  | succ d ih =>
    intro o k h0 hd
    have nle : ¬ i32 (ws.length : Int) ≤ i32 o := by rw [i32_id (by omega) (by omega), i32_id (by omega) (by omega)]; omega
    obtain ⟨k1, p1, p2⟩ := cnt_in h (o := o) (by omega) vs.length 0 k (by omega) (by omega)
    obtain ⟨k', q1, q2⟩ := ih (o + 1) k1 (by omega) (by omega)
    have hfu : vs.length < FU := by have := FU_ge; omega
    refine ⟨k', fun f hf => ?_, fun f hf => ?_⟩
    · obtain ⟨g', rfl⟩ : ∃ g, f = g + 1 := ⟨f - 1, by omega⟩
      rw [x0_has_2_L91]
      exact st_bind (sayings_ev h.2.2.2.1.cty) (st_f nle (st_bnd ((p1 _ FU hfu).trans (st_bnd (q1 g' (by omega))))))
    · obtain ⟨g', rfl⟩ : ∃ g, f = g + 1 := ⟨f - 1, by omega⟩
      rw [m_countAll_L4]
      exact st_bind (sayMany_ev hn.2.2.1) (st_f nle (st_bnd ((p2 _ FU hfu).trans (st_bnd (q2 g' (by omega))))))
theorem CLs.has (h : INV τ s N es fs ws vs) (ha : rgI a) : CL τ s (x0_has_2 a τ) (m_has a s) := by
  have hn := h.le
  obtain ⟨⟨⟨c0, ct⟩, -, -⟩, -, ⟨d1, -⟩, -⟩ := id h.2.2.2.1
  unfold x0_has_2 m_has
  rw [ha.e]
  by_cases q0 : a = 0
  · refine h.same (z := s 35 2) (st_bnd (st_t q0 (st_gd (dyn_ne c0.1) (st_gd (tgd c0.1 ct) ?_)))) (st_bnd (st_t q0 (st_gd (by decide) rfl)))
    rw [d1.1]
  by_cases q1 : a = 1
  · have ip : i32 (1 + a) = 2 := by rw [q1]; decide
    refine h.same (z := ws.length) (st_bnd (st_f q0 (st_t q1 (st_bind (sayings_ev h.2.2.2.1.cty) rfl)))) (st_bnd (st_f q0 (st_t q1 (st_gd ?_ ?_))))
    · unfold ok; rw [ip]; decide
    · rw [ip, hn.2.2.1]
  by_cases q2 : a = 2
  · have ip : i32 (1 + a) = 3 := by rw [q2]; decide
    refine h.same (z := vs.length) (st_bnd (st_f q0 (st_f q1 (st_t q2 (st_bind (verbs_ev h.2.2.2.1.cty) rfl))))) (st_bnd (st_f q0 (st_f q1 (st_t q2 (st_gd ?_ ?_)))))
    · unfold ok; rw [ip]; decide
    · rw [ip, hn.2.2.2]
  by_cases q3 : a = 3
  · refine h.same (z := s 48 0) (st_bnd (st_f q0 (st_f q1 (st_f q2 (st_t q3 ?_))))) (st_bnd (st_f q0 (st_f q1 (st_f q2 (st_t q3 (st_gd (by decide) ?_))))))
    · rw [h.2.2.2.2.1.1.1.1]
    · rw [i32_0]
  by_cases q4 : a = 4
  · obtain ⟨-, ⟨l1, l2, l3⟩, -⟩ := h.2.2.2.2.1.1
    have kb := (skV_b (nv := vs.length) (by omega) l1).1
    refine h.same (z := popF (τ 36 1)) (st_bnd (st_f q0 (st_f q1 (st_f q2 (st_f q3 (st_t q4 (st_bind (bitCount_ev τ l1) rfl))))))) (st_bnd (st_f q0 (st_f q1 (st_f q2 (st_f q3 (st_t q4 (st_bind (verbMany_ev hn.2.2.2) (st_bind (sack_m h.rl) (st_bind (bits_ev kb) ?_)))))))))
    dsimp only
    rw [pop_sack h]
  by_cases q5 : a = 5
  · obtain ⟨k, p1, p2⟩ := cnt_out h ws.length 0 0 (by omega) (by omega)
    have hfu : ws.length < FU := by have := FU_ge; omega
    refine h.same (z := k) (st_bnd (st_f q0 (st_f q1 (st_f q2 (st_f q3 (st_f q4 (st_t q5 (st_bnd (p1 FU hfu))))))))) (st_bnd (st_f q0 (st_f q1 (st_f q2 (st_f q3 (st_f q4 (st_t q5 (st_bind (z := (k, s)) ?_ rfl))))))))
    unfold m_countAll
    exact st_bnd (st_bnd (p2 FU hfu))
  by_cases q6 : a = 6
  · refine h.same (z := s 48 68) (st_bnd (st_f q0 (st_f q1 (st_f q2 (st_f q3 (st_f q4 (st_f q5 (st_t q6 ?_)))))))) (st_bnd (st_f q0 (st_f q1 (st_f q2 (st_f q3 (st_f q4 (st_f q5 (st_t q6 (st_gd (by decide) ?_)))))))))
    · rw [h.2.2.2.2.1.2.1.1.1]
    · rw [show i32 68 = 68 by decide]
  by_cases q7 : a = 7
  · refine h.same (z := s 64 0) (st_bnd (st_f q0 (st_f q1 (st_f q2 (st_f q3 (st_f q4 (st_f q5 (st_f q6 (st_t q7 ?_))))))))) (st_bnd (st_f q0 (st_f q1 (st_f q2 (st_f q3 (st_f q4 (st_f q5 (st_f q6 (st_t q7 rfl)))))))))
    rw [h.2.2.2.2.2.2.2.1.1.1]
  by_cases q8 : a = 8
  · refine h.same (z := s 70 0) (st_bnd (st_f q0 (st_f q1 (st_f q2 (st_f q3 (st_f q4 (st_f q5 (st_f q6 (st_f q7 (st_t q8 ?_)))))))))) (st_bnd (st_f q0 (st_f q1 (st_f q2 (st_f q3 (st_f q4 (st_f q5 (st_f q6 (st_f q7 (st_t q8 rfl))))))))))
    rw [h.2.2.2.2.2.2.1.1.1]
  exact h.same (st_bnd (st_f q0 (st_f q1 (st_f q2 (st_f q3 (st_f q4 (st_f q5 (st_f q6 (st_f q7 (st_f q8 rfl)))))))))) (st_bnd (st_f q0 (st_f q1 (st_f q2 (st_f q3 (st_f q4 (st_f q5 (st_f q6 (st_f q7 (st_f q8 rfl))))))))))
/-- needed -/
def ndS (n nv : Nat) (cn : Int → Int → Bool) (of : Int) : Nat → Int → Int → Int
  | 0, _, set => set
  | d + 1, v, set => ndS n nv cn of d (v + 1) (if bit of v = true then (if rws nv (cbF cn (iand of (ixor (ishl 1 v) (-1)))) n [] = [] then ior set (ishl 1 v) else set) else set)
theorem ndS_0 {nv : Nat} {cn : Int → Int → Bool} {of : Int} : ∀ (d : Nat) (v : Int), ndS 0 nv cn of d v 0 = 0
  | 0, _ => rfl
  | d + 1, v => by
    rw [ndS]
    have : ∀ w, ¬ rws nv (cbF cn w) 0 [] = [] := fun w => by rw [rws]; simp
    rw [if_neg (this _), ite_self]
    exact ndS_0 d (v + 1)
theorem gv_none {n nv : Nat} {cn : Int → Int → Bool} {wl : Int → Int → Int} {of : Int} : gvF n nv cn wl of = none ↔ rws nv (cbF cn of) n [] = [] := by
  unfold gvF wbt
  constructor
  · intro h
    by_cases q : rws nv (cbF cn of) n [] = []
    · exact q
    · obtain ⟨l, hl⟩ := best_some (f := fun r => - wsF wl 0 r) (rws nv (cbF cn of) n []) none (Or.inl q)
      rw [h] at hl
      cases hl
  · intro h; rw [h]; rfl
theorem need_x (h : RLc τ s N 36 es fs ws vs) {cn : Int → Int → Bool} {wl : Int → Int → Int} (K : Int → XS → Option (Int × XS)) : ∀ (d : Nat) (v set : Int) (t : XS) (fuel : Nat), 0 ≤ v → v + d = vs.length → (0 ≤ set ∧ set < 128) → lox τ t → xgR t ws.length vs.length cn wl → d < fuel → ∃ t', x0_needed_L23 K fuel set v t = K (ndS ws.length vs.length cn (skV vs.length (τ 36 1)) d v set) t' ∧ lox τ t' := by
  obtain ⟨-, ⟨⟨-, hn, -⟩, -, hv, -⟩, -⟩ := id h.2.1
  obtain ⟨l1, l2, -⟩ := h.2.2.2.2.1
  obtain ⟨k1, k2⟩ := skV_b (nv := vs.length) (by omega) l1
  intro d
  induction d with
  | zero =>
    intro v set t fuel h0 hd hs hl hg hf
    obtain ⟨g, rfl⟩ : ∃ g, fuel = g + 1 := ⟨fuel - 1, by omega⟩
    have ht := h.lx hl stn.rf rfl
    refine ⟨t, ?_, hl⟩
    rw [x0_needed_L23, ndS]
    refine st_bind (verbs_ev ht.2.1.cty) (st_t ?_ rfl)
    dsimp only
    rw [i32_id (by omega) (by omega), i32_id (by omega) (by omega)]; omega
  | succ d ih =>
    intro v set t fuel h0 hd hs hl hg hf
    obtain ⟨g, rfl⟩ : ∃ g, fuel = g + 1 := ⟨fuel - 1, by omega⟩
    have ht := h.lx hl stn.rf rfl
    have e36 : t 36 = τ 36 := hl 36 (by omega)
    have nle : ¬ i32 (vs.length : Int) ≤ i32 v := by rw [i32_id (by omega) (by omega), i32_id (by omega) (by omega)]; omega
    have hh := hasb_ev t (a := t 36 1) (by rw [e36]; exact l1) (o := v) (by omega)
    have kb := k2 v h0 (by omega)
    rw [decide_eq_true (show v < vs.length by omega), Bool.true_and] at kb
    rw [e36] at hh
    rw [ndS, x0_needed_L23]
    cases hbit : bit (τ 36 1) v with
    | true =>
      rw [hbit] at hh kb
      rw [if_neg (by rw [kb]; simp)]
      obtain ⟨t', a1, a2⟩ := ih (v + 1) set t g (by omega) (by omega) hs hl hg (by omega)
      refine ⟨t', st_bind (verbs_ev ht.2.1.cty) (st_f nle (st_bind (z := (1, t)) ?_ (st_bnd (st_f n10 (st_bnd a1))))), a2⟩
      dsimp only
      rw [e36]; exact hh
    | false =>
      rw [hbit] at hh kb
      rw [if_pos (by rw [kb]; rfl)]
      have sk := sack_x ht
      rw [e36] at sk
      have hcl := clr_b k1 (o := v) (by omega)
      have ecl := clr_ev k1 (o := v) (by omega)
      obtain ⟨t1, b1, b2, b3, b4⟩ := x6_in_ev (of := iand (skV vs.length (τ 36 1)) (ixor (ishl 1 v) (-1))) (cn := cn) (wl := wl) hn hv (by rw [ecl]; omega) ht.2.1.cty hg
      have l1' : lox τ t1 := hl.tr (onxG b2)
      by_cases q : rws vs.length (cbF cn (iand (skV vs.length (τ 36 1)) (ixor (ishl 1 v) (-1)))) ws.length [] = []
      · rw [if_pos q]
        rw [gv_none.mpr q] at b4
        have z5 : i32 (t1 19 5) = 0 := by rw [show t1 19 5 = 0 from b4]; exact i32_0
        obtain ⟨t', a1, a2⟩ := ih (v + 1) (ior set (ishl 1 v)) t1 g (by omega) (by omega) (set_b7 hs ⟨h0, by omega⟩) l1' (hg.kept hn b2) (by omega)
        refine ⟨t', st_bind (verbs_ev ht.2.1.cty) (st_f nle (st_bind (z := (0, t)) ?_ (st_bnd (st_t i32_0 (st_bind sk (st_bind b1 (st_gd rfl (st_bnd (st_t z5 (st_bnd (st_bnd a1))))))))))), a2⟩
        dsimp only
        rw [e36]; exact hh
      · rw [if_neg q]
        have z5 : ¬ i32 (t1 19 5) = 0 := by
          cases hgv : gvF ws.length vs.length cn wl (iand (skV vs.length (τ 36 1)) (ixor (ishl 1 v) (-1))) with
          | none => exact absurd (gv_none.mp hgv) q
          | some r => rw [hgv] at b4; rw [b4.1]; exact n10
        obtain ⟨t', a1, a2⟩ := ih (v + 1) set t1 g (by omega) (by omega) hs l1' (hg.kept hn b2) (by omega)
        refine ⟨t', st_bind (verbs_ev ht.2.1.cty) (st_f nle (st_bind (z := (0, t)) ?_ (st_bnd (st_t i32_0 (st_bind sk (st_bind b1 (st_gd rfl (st_bnd (st_f z5 (st_be (e' := set) (ior_0 hs) (st_bnd a1))))))))))), a2⟩
        dsimp only
        rw [e36]; exact hh
theorem need_m {n nv : Nat} {cn : Int → Int → Bool} {of : Int} (hof : 0 ≤ of ∧ of < 128) (hn : 1 ≤ n) (K : Int → MS → Option (Int × MS)) : ∀ (d : Nat) (v set : Int) (s : MS) (fuel : Nat), 0 ≤ v → v + d = nv → mgR s n nv 1 cn → d < fuel → ∃ s', m_needed_L31 K fuel of set v s = K (ndS n nv cn of d v set) s' ∧ only [53] s s' := by
  intro d
  induction d with
  | zero =>
    intro v set s fuel h0 hd hM hf
    obtain ⟨g, rfl⟩ : ∃ g, fuel = g + 1 := ⟨fuel - 1, by omega⟩
    have h7 := hM.2.1.2
    refine ⟨s, ?_, only.rf⟩
    rw [m_needed_L31, ndS]
    refine st_bind (verbMany_ev hM.2.1.1) (st_t ?_ rfl)
    dsimp only
    rw [i32_id (by omega) (by omega), i32_id (by omega) (by omega)]; omega
  | succ d ih =>
    intro v set s fuel h0 hd hM hf
    obtain ⟨g, rfl⟩ : ∃ g, fuel = g + 1 := ⟨fuel - 1, by omega⟩
    have h7 := hM.2.1.2
    have nle : ¬ i32 (nv : Int) ≤ i32 v := by rw [i32_id (by omega) (by omega), i32_id (by omega) (by omega)]; omega
    have mh := has_ev hof (o := v) (by omega)
    rw [m_needed_L31, ndS]
    by_cases hbit : bit of v = true
    · rw [if_pos hbit]
      rw [hbit] at mh
      have hcl := clr_b hof (o := v) (by omega)
      have ecl := clr_ev hof (o := v) (by omega)
      have z1 : i32 (iand (ishr of v) 1) = i32 1 := by rw [mh]; rfl
      obtain ⟨s1, b1, b2⟩ := first_ev (of := iand of (ixor (ishl 1 v) (-1))) (by rw [ecl]; omega) hM hn
      have M1 := hM.kept (s' := s1) (b1 36 (by decide)) (b1 52 (by decide))
      rcases b2 with ⟨b2, b3⟩ | ⟨pr', k', b2, -, -, -, b6, -⟩
      · rw [if_pos b2]
        obtain ⟨s', a1, a2⟩ := ih (v + 1) (ior set (ishl 1 v)) s1 g (by omega) (by omega) M1 (by omega)
        exact ⟨s', st_bind (verbMany_ev hM.2.1.1) (st_f nle (st_bnd (st_t z1 (st_bind b3 (st_t i32_0 (st_bnd (st_bnd a1))))))), b1.tr a2⟩
      · rw [if_neg (by rw [b2]; simp)]
        obtain ⟨s', a1, a2⟩ := ih (v + 1) set s1 g (by omega) (by omega) M1 (by omega)
        exact ⟨s', st_bind (verbMany_ev hM.2.1.1) (st_f nle (st_bnd (st_t z1 (st_bind b6 (st_f n10 (st_bnd a1)))))), b1.tr a2⟩
    · rw [if_neg hbit]
      have hb : bit of v = false := by cases q : bit of v with | false => rfl | true => exact absurd q hbit
      rw [hb] at mh
      have z1 : ¬ i32 (iand (ishr of v) 1) = i32 1 := by rw [mh]; decide
      obtain ⟨s', a1, a2⟩ := ih (v + 1) set s g (by omega) (by omega) hM (by omega)
      exact ⟨s', st_bind (verbMany_ev hM.2.1.1) (st_f nle (st_bnd (st_f z1 (st_bnd a1)))), a2⟩
theorem CLs.needed (h : INV τ s N es fs ws vs) : CL τ s (x0_needed τ) (m_needed s) := by
  have hn := h.le
  obtain ⟨-, ⟨l1, l2, -⟩, -⟩ := h.2.2.2.2.1.1
  obtain ⟨k1, k2⟩ := skV_b (nv := vs.length) (by omega) l1
  obtain ⟨t1, a1, a2, -, a4, a5⟩ := by_x h.rl
  obtain ⟨s1, b1, b2, b3, b4⟩ := lays_ev h.rl
  have h1 : RLc τ s1 N 36 es fs ws vs := h.rl.lx lox.rf (stn.of b2 (by decide)) (b2 48 (by decide))
  have sk := sack_m h1
  have hfu : vs.length < FU := by have := FU_ge; omega
  have lpq : only qfk s s1 := b2.mono (by unfold lpk qfk; intro k; simp; omega)
  unfold x0_needed m_needed
  by_cases h0 : ws.length = 0
  · have z5 : ¬ i32 (t1 19 5) = 0 := by
      cases hgv : gvF ws.length vs.length (cnX 36 τ) (wlX 36 τ) (skV vs.length (τ 36 1)) with
      | none =>
        have := gv_none.mp hgv
        rw [h0, rws] at this
        cases this
      | some r => rw [hgv] at a4; rw [a4.1]; exact n10
    obtain ⟨t2, c1, c2⟩ := need_x h.rl (fun (x1_30 : Int) (s31 : XS) => some (x1_30, s31)) vs.length 0 0 t1 FU (by omega) (by omega) (by omega) a2 a5 hfu
    rw [h0, ndS_0] at c1
    exact h.qc (z := 0) (st_bind a1 (st_gd rfl (st_f z5 (st_bnd (st_bnd c1))))) (st_bind b1 (st_bind sk (st_bnd (st_bind (sayMany_ev b3.1.1) (st_t (by dsimp only; rw [h0]; exact i32_0) rfl))))) (onQ.lx c2) lpq (h.q36 c2)
  · have nn : ¬ i32 (ws.length : Int) = 0 := by rw [i32_id (by omega) (by omega)]; omega
    obtain ⟨s2, d1, d2⟩ := first_ev k1 b3 (by omega)
    have o2 : only qfk s s2 := lpq.tr (d1.mono (by unfold qfk; intro k; simp; omega))
    rcases d2 with ⟨d2, d3⟩ | ⟨pr', k', d2, -, -, -, d6, -⟩
    · have z5 : i32 (t1 19 5) = 0 := by
        rw [gv_none.mpr d2] at a4
        rw [show t1 19 5 = 0 from a4]; exact i32_0
      exact h.qc (z := 0) (st_bind a1 (st_gd rfl (st_t z5 rfl))) (st_bind b1 (st_bind sk (st_bnd (st_bind (sayMany_ev b3.1.1) (st_f nn (st_bind d3 (st_t i32_0 rfl))))))) (onQ.lx a2) o2 (h.q36 a2)
    · have z5 : ¬ i32 (t1 19 5) = 0 := by
        cases hgv : gvF ws.length vs.length (cnX 36 τ) (wlX 36 τ) (skV vs.length (τ 36 1)) with
        | none =>
          have := gv_none.mp hgv
          rw [d2] at this
          cases this
        | some r => rw [hgv] at a4; rw [a4.1]; exact n10
      obtain ⟨t2, c1, c2⟩ := need_x h.rl (fun (x1_30 : Int) (s31 : XS) => some (x1_30, s31)) vs.length 0 0 t1 FU (by omega) (by omega) (by omega) a2 a5 hfu
      obtain ⟨s3, e1, e2⟩ := need_m k1 (by omega) (fun (x2_28 : Int) (s29 : MS) => some (x2_28, s29)) vs.length 0 0 s2 FU (by omega) (by omega) (b3.kept (d1 36 (by decide)) (d1 52 (by decide))) hfu
      exact h.qc (st_bind a1 (st_gd rfl (st_f z5 (st_bnd (st_bnd c1))))) (st_bind b1 (st_bind sk (st_bnd (st_bind (sayMany_ev b3.1.1) (st_f nn (st_bind d6 (st_f n10 (st_bnd (st_bnd e1))))))))) (onQ.lx c2) (o2.tr (e2.mono (by unfold qfk; intro k; simp; omega))) (h.q36 c2)
end
