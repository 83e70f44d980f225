set_option maxRecDepth 100000
/-! LAYER 2: the reference goes through rows -/
section
variable {s s' : MS} {n nv : Nat} {of : Int} {cn : Int → Int → Bool}
/-- of the reference: how many sayings and verbs, what can be taken (asked or not) -/
def mgR (s : MS) (n nv : Nat) (asked : Int) (cn : Int → Int → Bool) : Prop := (s 36 2 = n ∧ n ≤ 6) ∧ (s 36 3 = nv ∧ nv ≤ 7) ∧ ((asked = 0 ∧ ∀ o v, cn o v = true) ∨ (asked = 1 ∧ ∀ o v : Int, 0 ≤ o → o < n → 0 ≤ v → v < nv → s 52 (7 * o + v) = b2i (cn o v)))
theorem mgR.kept {asked : Int} (h : mgR s n nv asked cn) (e36 : s' 36 = s 36) (e52 : s' 52 = s 52) : mgR s' n nv asked cn := by
  unfold mgR
  rw [e36, e52]
  exact h
theorem hR.get {k : Nat} {l : List Int} (h : hR s k l) {i : Nat} (hi : i < l.length) : s k i = l[i] := h i _ (List.getElem?_eq_getElem hi)
theorem canBe_go (p : List Int) (hp : p.length ≤ 6) (h : hR s 53 p) (hb : ∀ u ∈ p, 0 ≤ u ∧ u < 7) {v : Int} (hv : 0 ≤ v ∧ v < 7) (k1 k2 : MS → Option (Int × MS)) : ∀ (d fuel i : Nat), i + d = p.length → d < fuel →
    m_canBe_L32 k1 k2 fuel p.length v i s = if (p.drop i).contains v = true then k2 s else k1 s := by
  intro d
  induction d with
  | zero =>
    intro fuel i hi hf
    obtain ⟨g, rfl⟩ : ∃ g, fuel = g + 1 := ⟨fuel - 1, by omega⟩
    rw [List.drop_eq_nil_of_le (by omega), m_canBe_L32]
    simp only [List.contains_nil, Bool.false_eq_true, if_false]
    exact st_t (by rw [i32_id (by omega) (by omega), i32_id (by omega) (by omega)]; omega) rfl
  | succ d ih =>
    intro fuel i hi hf
    obtain ⟨g, rfl⟩ : ∃ g, fuel = g + 1 := ⟨fuel - 1, by omega⟩
    have hl : i < p.length := by omega
    have ii : i32 (i : Int) = i := i32_id (by omega) (by omega)
    have hu := hb p[i] (List.getElem_mem hl)
    have e := h.get hl
    rw [m_canBe_L32]
    refine st_f (by rw [ii, i32_id (by omega) (by omega)]; omega) (st_gd (by unfold ok; rw [ii]; omega) ?_)
    rw [ii, e, i32_id (by omega) (by omega), i32_id (by omega) (by omega), List.drop_eq_getElem_cons hl, List.contains_cons]
    by_cases c : p[i] = v
    · rw [if_pos c, if_pos (by rw [c]; simp)]
    · rw [if_neg c, bnd_r, show (i : Int) + 1 = ((i + 1 : Nat) : Int) by omega, ih g (i + 1) (by omega) (by omega)]
      have : (v == p[i]) = false := by simp; exact Ne.symm c
      rw [this, Bool.false_or]
theorem canBe_ev {asked : Int} (hM : mgR s n nv asked cn) (p : List Int) (hp : p.length < n) (h : hR s 53 p) (hb : ∀ u ∈ p, 0 ≤ u ∧ u < nv) (hof : 0 ≤ of ∧ of < 128) {v : Int} (hv : 0 ≤ v ∧ v < nv) : m_canBe p.length v of asked s = some (b2i (cbF cn of p v), s) := by
  obtain ⟨⟨h1, h2⟩, ⟨h3, h4⟩, h5⟩ := hM
  have hv7 : 0 ≤ v ∧ v < 7 := by omega
  have fu := FU_ge
  have rest : ∀ b : Bool, b = true → m_canBe_L32 (fun (s20 : MS) => some (1, s20)) (fun (s21 : MS) => some (0, s21)) FU p.length v ((0 : Nat) : Int) s = some (b2i (b && !(p.contains v)), s) := fun b hb2 => by
    rw [canBe_go p (by omega) h (fun u hu => by have := hb u hu; omega) hv7 _ _ p.length FU 0 (by omega) (by omega), List.drop_zero, hb2, Bool.true_and]
    cases p.contains v with
    | true => rfl
    | false => rfl
  unfold m_canBe cbF
  rw [has_ev hof hv7]
  cases hbit : bit of v with
  | false => exact st_t (by decide) rfl
  | true =>
    refine st_f (by decide) (st_bnd ?_)
    rw [Bool.true_and]
    rcases h5 with ⟨r1, r2⟩ | ⟨r1, r2⟩
    · rw [r1, r2]
      exact st_t i32_0 (st_bnd (rest true rfl))
    · rw [r1]
      refine st_f (by decide) ?_
      have i7 : i32 (7 * (p.length : Int) + v) = 7 * p.length + v := i32_id (by omega) (by omega)
      refine st_gd (by unfold ok; rw [i7]; omega) ?_
      rw [i7, r2 _ _ (by omega) (by omega) hv.1 hv.2]
      cases hc : cn p.length v with
      | false => exact st_t (by decide) rfl
      | true => exact st_f (by decide) (st_bnd (rest true rfl))
theorem verbMany_ev {v : Int} (h : s 36 3 = v) : m_verbMany s = some (v, s) := by
  unfold m_verbMany
  refine st_gd (by decide) ?_
  rw [show i32 3 = 3 by decide, h]
theorem sayMany_ev {v : Int} (h : s 36 2 = v) : m_sayingMany s = some (v, s) := by
  rw [m_sayingMany_ev, h]
/-- the next verb that can come -/
theorem next19 {asked : Int} (pr : List Int) (hp : pr.length < n) (hof : 0 ≤ of ∧ of < 128) (hb : ∀ u ∈ pr, 0 ≤ u ∧ u < nv) (K : Int → Int → Int → MS → Option (Int × MS)) : ∀ (k fuel : Nat) (s : MS), mgR s n nv asked cn → k ≤ nv → s 53 pr.length = nv - k → hR s 53 pr.reverse → k < fuel →
    ∃ k1 s', k1 ≤ k ∧ m_isNextRow_L19 K fuel of asked pr.length s = K of asked pr.length s' ∧ only [53] s s' ∧ s' 53 pr.length = nv - k1 ∧ hR s' 53 pr.reverse ∧ aft nv (cbF cn of) n pr k = aft nv (cbF cn of) n pr k1 ∧ (k1 = 0 ∨ ∃ k2, k1 = k2 + 1 ∧ cbF cn of pr.reverse ((nv : Int) - ((k2 : Int) + 1)) = true) := by
  intro k
  induction k with
  | zero =>
    intro fuel s hM hk h53 hR hf
    obtain ⟨g, rfl⟩ : ∃ g, fuel = g + 1 := ⟨fuel - 1, by omega⟩
    have hb6 := hM.1.2
    have hb7 := hM.2.1.2
    have ip : i32 (pr.length : Int) = pr.length := i32_id (by omega) (by omega)
    refine ⟨0, s, Nat.le_refl _, ?_, only.rf, h53, hR, rfl, Or.inl rfl⟩
    rw [m_isNextRow_L19]
    refine st_gd (by unfold ok; rw [ip]; omega) (st_bind (verbMany_ev hM.2.1.1) (st_t ?_ rfl))
    dsimp only
    rw [ip, h53, i32_id (by omega) (by omega), i32_id (by omega) (by omega)]
    omega
  | succ k ih =>
    intro fuel s hM hk h53 hRr hf
    obtain ⟨g, rfl⟩ : ∃ g, fuel = g + 1 := ⟨fuel - 1, by omega⟩
    have hb6 := hM.1.2
    have hb7 := hM.2.1.2
    have ip : i32 (pr.length : Int) = pr.length := i32_id (by omega) (by omega)
    have okp : ok 6 (pr.length : Int) := by unfold ok; rw [ip]; omega
    have e53 : s 53 (i32 (pr.length : Int)) = nv - ((k : Int) + 1) := by rw [ip, h53]; omega
    have nle : ¬ i32 (nv : Int) ≤ i32 (s 53 (i32 (pr.length : Int))) := by rw [e53, i32_id (by omega) (by omega), i32_id (by omega) (by omega)]; omega
    have cbv := canBe_ev (v := nv - ((k : Int) + 1)) hM pr.reverse (by rw [List.length_reverse]; exact hp) hRr (fun u hu => hb u (List.mem_reverse.mp hu)) hof (by omega)
    rw [List.length_reverse] at cbv
    cases hc : cbF cn of pr.reverse ((nv : Int) - ((k : Int) + 1)) with
    | true =>
      rw [hc] at cbv
      refine ⟨k + 1, s, Nat.le_refl _, ?_, only.rf, h53, hRr, rfl, Or.inr ⟨k, rfl, hc⟩⟩
      rw [m_isNextRow_L19]
      refine st_gd okp (st_bind (verbMany_ev hM.2.1.1) (st_f nle (st_gd okp (st_bind (z := (1, s)) ?_ (st_f n10 rfl)))))
      dsimp only
      rw [e53]
      exact cbv
    | false =>
      rw [hc] at cbv
      obtain ⟨s1, e1⟩ : ∃ s1, up s 53 (pr.length : Int) (nv - (k : Int)) = s1 := ⟨_, rfl⟩
      have o1 : only [53] s s1 := by rw [← e1]; exact only.up (by decide)
      have R1 : hR s1 53 pr.reverse := fun i x hx => by
        have hi := (List.getElem?_eq_some_iff.mp hx).1
        rw [List.length_reverse] at hi
        rw [← e1, up_i _ _ _ _ (by omega)]
        exact hRr i x hx
      obtain ⟨k1, s', a1, a2, a3, a4, a5, a6, a7⟩ := ih g s1 (hM.kept (o1 36 (by decide)) (o1 52 (by decide))) (by omega) (by rw [← e1, up_s]) R1 (by omega)
      refine ⟨k1, s', by omega, ?_, o1.tr a3, a4, a5, (aft_skip nv (cbF cn of) n pr k hc).trans a6, a7⟩
      rw [m_isNextRow_L19]
      refine st_gd okp (st_bind (verbMany_ev hM.2.1.1) (st_f nle (st_gd okp (st_bind (z := (0, s)) ?_ (st_t i32_0 (st_gd okp (st_gd okp (st_be (e' := s1) ?_ a2))))))))
      · dsimp only
        rw [e53]
        exact cbv
      · dsimp only
        rw [e53, ip, ← e1, show (nv : Int) - ((k : Int) + 1) + 1 = nv - (k : Int) by omega]
theorem ar1 {a n : Nat} (h : a < n) (h2 : ¬ a + 1 = n) (h6 : n ≤ 6) : a + 1 < n ∧ a ≤ 4 := by omega
theorem ar2 {c1 c2 k nv : Nat} (a1 : c1 ≤ k) (a7 : c1 = c2 + 1) (hk : k ≤ nv) : c2 + 1 ≤ k ∧ c2 + 1 ≤ nv ∧ (0 ≤ (nv : Int) - ((c2 : Int) + 1) ∧ (nv : Int) - ((c2 : Int) + 1) < nv) := by omega
theorem ar3 {c2 nv : Nat} (h : c2 + 1 ≤ nv) (h7 : nv ≤ 7) : ¬ i32 ((nv : Int) - ((c2 : Int) + 1)) = i32 (nv : Int) := by
  rw [i32_id (by omega) (by omega), i32_id (by omega) (by omega)]
  omega
theorem ar4 {i l : Nat} (h : ¬ i < l) (h2 : i - l < 1) : i = l := by omega
theorem ar5 {l n : Nat} (h : l + 1 < n) (h6 : n ≤ 6) : ¬ i32 (l : Int) = i32 ((n : Int) - 1) := by
  rw [i32_id (by omega) (by omega), i32_id (by omega) (by omega)]
  omega
theorem ar6 {l : Nat} (h : l ≤ 4) : i32 ((l : Int) + 1) = l + 1 ∧ ok 6 ((l : Int) + 1) := by
  have e : i32 ((l : Int) + 1) = l + 1 := i32_id (by omega) (by omega)
  refine ⟨e, ?_⟩
  unfold ok
  rw [e]
  omega
theorem ar7 (n : Nat) : (-1 : Int) = (n : Int) - (n : Int) - 1 := by omega
theorem ar8 {i l : Nat} (h : i < l + 1) : (i : Int) ≠ (l : Int) + 1 := by omega
theorem ar9 {M' M g : Nat} (h : M' < M) (h2 : M + 1 < g + 1) : M' + 1 < g := by omega
theorem ar10 (l : Nat) : ((l + 1 : Nat) : Int) = (l : Int) + 1 := by omega
theorem ar11 {l n : Nat} (h : l + 1 = n) : (n : Int) - 1 = (l : Int) := by omega
/-- the next row -/
theorem nextRow_go {asked : Int} (hof : 0 ≤ of ∧ of < 128) (k1 k2 : MS → Option (Int × MS)) : ∀ (M : Nat) (pr : List Int) (k fuel : Nat) (s : MS), MmI nv pr k M → mgR s n nv asked cn → pr.length < n → (∀ u ∈ pr, 0 ≤ u ∧ u < nv) → k ≤ nv → s 53 pr.length = nv - k - 1 → hR s 53 pr.reverse → M + 1 < fuel →
    ∃ s', only [53] s s' ∧ ((aft nv (cbF cn of) n pr k = [] ∧ m_isNextRow_L3 k1 k2 fuel of asked pr.length s = k1 s') ∨
      ∃ (pr' : List Int) (k' : Nat), aft nv (cbF cn of) n pr k = (pr'.reverse ++ [(nv : Int) - ((k' : Int) + 1)]) :: aft nv (cbF cn of) n pr' k' ∧ pr'.length + 1 = n ∧ k' + 1 ≤ nv ∧ (∀ u ∈ pr', 0 ≤ u ∧ u < nv) ∧ m_isNextRow_L3 k1 k2 fuel of asked pr.length s = k2 s' ∧ hR s' 53 (pr'.reverse ++ [(nv : Int) - ((k' : Int) + 1)])) := by
  intro M
  induction M using Nat.strongRecOn with
  | ind M ih =>
    intro pr k fuel s hMm hM hp hb hk h53 hRr hf
    obtain ⟨g, rfl⟩ : ∃ g, fuel = g + 1 := ⟨fuel - 1, by omega⟩
    have hb6 := hM.1.2
    have hb7 := hM.2.1.2
    have ip : i32 (pr.length : Int) = pr.length := i32_id (by omega) (by omega)
    have okp : ok 6 (pr.length : Int) := by unfold ok; rw [ip]; omega
    obtain ⟨s1, e1⟩ : ∃ s1, up s 53 (pr.length : Int) (nv - (k : Int)) = s1 := ⟨_, rfl⟩
    have e1' : up s 53 (i32 (pr.length : Int)) (s 53 (i32 (pr.length : Int)) + 1) = s1 := by
      rw [ip, h53, ← e1, show (nv : Int) - (k : Int) - 1 + 1 = nv - (k : Int) by omega]
    have o1 : only [53] s s1 := by rw [← e1]; exact only.up (by decide)
    have R1 : hR s1 53 pr.reverse := fun i x hx => by
      have hi := (List.getElem?_eq_some_iff.mp hx).1
      rw [List.length_reverse] at hi
      rw [← e1, up_i _ _ _ _ (by omega)]
      exact hRr i x hx
    have nlt : ¬ i32 (pr.length : Int) < 0 := by rw [ip]; omega
    obtain ⟨c1, s2, a1, a2, a3, a4, a5, a6, a7⟩ := next19 (cn := cn) (asked := asked) pr hp hof hb (fun (x2_31 : Int) (x3_32 : Int) (x4_33 : Int) (s34 : MS) =>
          gd (ok 6 x4_33) <|
          Option.bind (m_verbMany s34) fun z36 =>
          if i32 (s34 53 (i32 x4_33)) = i32 z36.1 then
            bnd (x4_33 + (-1)) fun x4_43 =>
            m_isNextRow_L3 k1 k2 g x2_31 x3_32 x4_43 z36.2
          else
            Option.bind (m_sayingMany z36.2) fun z38 =>
            if i32 x4_33 = i32 (z38.1 - 1) then
              k2 z38.2
            else
              bnd (x4_33 + 1) fun x4_40 =>
              gd (ok 6 x4_40) <|
              bnd (up z38.2 53 (i32 x4_40) (-1)) fun s42 =>
              m_isNextRow_L3 k1 k2 g x2_31 x3_32 x4_40 s42) k FU s1 (hM.kept (o1 36 (by decide)) (o1 52 (by decide))) hk (by rw [← e1, up_s]) R1 (by have := FU_ge; omega)
    have M2 : mgR s2 n nv asked cn := hM.kept (by rw [a3 36 (by decide), o1 36 (by decide)]) (by rw [a3 52 (by decide), o1 52 (by decide)])
    have o2 : only [53] s s2 := o1.tr a3
    have hd : ∀ {x : Option (Int × MS)}, (gd (ok 6 (pr.length : Int)) <|
          Option.bind (m_verbMany s2) fun z36 =>
          if i32 (s2 53 (i32 (pr.length : Int))) = i32 z36.1 then
            bnd ((pr.length : Int) + (-1)) fun x4_43 =>
            m_isNextRow_L3 k1 k2 g of asked x4_43 z36.2
          else
            Option.bind (m_sayingMany z36.2) fun z38 =>
            if i32 (pr.length : Int) = i32 (z38.1 - 1) then
              k2 z38.2
            else
              bnd ((pr.length : Int) + 1) fun x4_40 =>
              gd (ok 6 x4_40) <|
              bnd (up z38.2 53 (i32 x4_40) (-1)) fun s42 =>
              m_isNextRow_L3 k1 k2 g of asked x4_40 s42) = x → m_isNextRow_L3 k1 k2 (g + 1) of asked pr.length s = x := fun {x} h => by
      rw [m_isNextRow_L3]
      exact st_f nlt (st_gd okp (st_gd okp (st_be e1' (a2.trans h))))
    rcases a7 with a7 | ⟨c2, a7, a8⟩
    · have eqv : i32 (s2 53 (i32 (pr.length : Int))) = i32 (nv : Int) := by rw [ip, a4, a7, show (nv : Int) - ((0 : Nat) : Int) = nv by omega]
      rw [a7] at a6
      cases pr with
      | nil =>
        obtain ⟨g2, rfl⟩ : ∃ g2, g = g2 + 1 := ⟨g - 1, by omega⟩
        refine ⟨s2, o2, Or.inl ⟨by rw [a6]; exact aft_nil _ _ _, hd (st_gd okp (st_bind (verbMany_ev M2.2.1.1) (st_t eqv (st_bnd ?_))))⟩⟩
        rw [m_isNextRow_L3]
        exact st_t (by decide) rfl
      | cons u pr =>
        have hu := hb u List.mem_cons_self
        rw [List.length_cons] at hp
        have el : (((u :: pr).length : Nat) : Int) + (-1) = (pr.length : Nat) := by rw [List.length_cons]; omega
        rw [List.reverse_cons] at a5
        have lst := a5.last
        rw [List.length_reverse] at lst
        obtain ⟨M', eM', lt⟩ := hMm.pop hb7 hu hk (by omega)
        obtain ⟨s3, b1, b2⟩ := ih M' lt pr ((nv : Int) - 1 - u).toNat g s2 eM' M2 (by omega) (fun w hw => hb w (List.mem_cons_of_mem _ hw)) (by omega) (by rw [lst]; omega) a5.pre (by omega)
        rw [aft_pop] at a6
        refine ⟨s3, o2.tr b1, ?_⟩
        rcases b2 with ⟨b2, b3⟩ | ⟨pr', k', b2, b3, b4, b5, b6, b7⟩
        · refine Or.inl ⟨a6.trans b2, hd (st_gd okp (st_bind (verbMany_ev M2.2.1.1) (st_t eqv (st_bnd ?_))))⟩
          rw [el]
          exact b3
        · refine Or.inr ⟨pr', k', a6.trans b2, b3, b4, b5, hd (st_gd okp (st_bind (verbMany_ev M2.2.1.1) (st_t eqv (st_bnd ?_)))), b7⟩
          rw [el]
          exact b6
    · obtain ⟨q1, q2, q3⟩ := ar2 a1 a7 hk
      have e53 : s2 53 (pr.length : Int) = nv - ((c2 : Int) + 1) := by rw [a4, a7, ar10]
      have nev : ¬ i32 (s2 53 (i32 (pr.length : Int))) = i32 (nv : Int) := by rw [ip, e53]; exact ar3 q2 hb7
      rw [a7] at a6
      have Rv : hR s2 53 (pr.reverse ++ [(nv : Int) - ((c2 : Int) + 1)]) := by
        intro i x hx
        by_cases ci : i < pr.reverse.length
        · rw [List.getElem?_append_left ci] at hx
          exact a5 i x hx
        · rw [List.getElem?_append_right (Nat.le_of_not_lt ci)] at hx
          have hi := (List.getElem?_eq_some_iff.mp hx).1
          rw [List.length_reverse] at ci hx hi
          rw [List.length_singleton] at hi
          have := ar4 ci hi
          subst this
          rw [Nat.sub_self, List.getElem?_cons_zero] at hx
          cases hx
          exact e53
      by_cases hn : pr.length + 1 = n
      · refine ⟨s2, o2, Or.inr ⟨pr, c2, a6.trans (aft_last nv (cbF cn of) c2 hn a8), hn, q2, hb, hd (st_gd okp (st_bind (verbMany_ev M2.2.1.1) (st_f nev (st_bind (sayMany_ev M2.1.1) (st_t ?_ rfl))))), Rv⟩⟩
        dsimp only
        rw [ar11 hn]
      · obtain ⟨h1, h2⟩ := ar1 hp hn hb6
        have nel : ¬ i32 (pr.length : Int) = i32 ((n : Int) - 1) := ar5 h1 hb6
        obtain ⟨iq, okq⟩ := ar6 h2
        obtain ⟨s3, e3⟩ : ∃ s3, up s2 53 ((pr.length : Int) + 1) (-1) = s3 := ⟨_, rfl⟩
        have e3' : up s2 53 (i32 ((pr.length : Int) + 1)) (-1) = s3 := by rw [iq]; exact e3
        have o3 : only [53] s2 s3 := by rw [← e3]; exact only.up (by decide)
        have e3v : s3 53 ((pr.length : Int) + 1) = -1 := by rw [← e3, up_s]
        obtain ⟨M', eM', lt⟩ := hMm.push hb7 q1 hk h2
        obtain ⟨s4, b1, b2⟩ := ih M' lt (((nv : Int) - ((c2 : Int) + 1)) :: pr) nv g s3 eM' (M2.kept (o3 36 (by decide)) (o3 52 (by decide))) h1 (fun w hw => by
          rcases List.mem_cons.mp hw with rfl | hw
          · exact q3
          · exact hb w hw) (Nat.le_refl _) (by rw [List.length_cons, ar10]; exact e3v.trans (ar7 nv)) (fun i x hx => by
          have hi := (List.getElem?_eq_some_iff.mp hx).1
          rw [List.length_reverse, List.length_cons] at hi
          rw [← e3, up_i _ _ _ _ (ar8 hi)]
          rw [List.reverse_cons] at hx
          exact Rv i x hx) (ar9 lt hf)
        rw [List.length_cons, ar10] at b2
        have pu := aft_push nv (cbF cn of) c2 h1 a8
        refine ⟨s4, (o2.tr o3).tr b1, ?_⟩
        rcases b2 with ⟨b2, b3⟩ | ⟨pr', k', b2, b3, b4, b5, b6, b7⟩
        · exact Or.inl ⟨(a6.trans pu).trans b2, hd (st_gd okp (st_bind (verbMany_ev M2.2.1.1) (st_f nev (st_bind (sayMany_ev M2.1.1) (st_f nel (st_bnd (st_gd okq (st_be e3' b3))))))))⟩
        · exact Or.inr ⟨pr', k', (a6.trans pu).trans b2, b3, b4, b5, hd (st_gd okp (st_bind (verbMany_ev M2.2.1.1) (st_f nev (st_bind (sayMany_ev M2.1.1) (st_f nel (st_bnd (st_gd okq (st_be e3' b6)))))))), b7⟩
end
