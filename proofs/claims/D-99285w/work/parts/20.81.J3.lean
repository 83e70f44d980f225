set_option maxRecDepth 100000
/-! LAYER 2: calls of both: letter, has -/
section
variable {τ τ' : XS} {s s' : MS} {N : Int} {es fs : List Int} {ws vs : List (List Int)} {a b c : Int}
theorem charAt6_ev {w : List Int} (h : strX τ c w) {i : Nat} {x : Int} (hi : w[i]? = some x) : j6_charAt true c i τ = some (x, τ) := by
  obtain ⟨⟨a1, a2⟩, a3, ⟨b1, b2⟩, h3, h4, h6⟩ := h
  have hl := (List.getElem?_eq_some_iff.mp hi).1
  obtain ⟨e1, e2⟩ := h6 i x hi
  have t1 := tgf (t := 22) a1 a2
  have t2 := tgf (t := 102) b1 b2
  have hu : u16 x = x := by unfold u16; omega
  unfold j6_charAt j6_isLatin1 j9_charAt j6_checkIndex j8_checkIndex
  simp (disch := omega) only [gd_t, gd_T, gd_ok, not_false_eq_true, eq_self, bnd_r, bind_s, ite_t, ite_n, ite_T, ite_F, i32_id, t1, fre_nf b1, t2, h3, a3, ln_fre b1, e1, and255 e2, hu]
theorem nmV_div {w : List Int} {c : Int} (hw : ∀ y ∈ w, 97 ≤ y ∧ y ≤ 122) (hl : w.length ≤ 5) (hc : 97 ≤ c ∧ c ≤ 122) : ldiv (nmV (w ++ [c])) 27 = nmV w ∧ lrem (nmV (w ++ [c])) 27 = c - 96 ∧ 0 < nmV (w ++ [c]) ∧ nmV (w ++ [c]) < 400000000 := by
  have hb := nmV_400 (w := w) (by omega) hw
  have hb2 := nmV_400 (w := w ++ [c]) (by simp; omega) (fun y hy => by
    rcases List.mem_append.mp hy with hy | hy
    · exact hw y hy
    · rw [List.mem_singleton] at hy; rw [hy]; exact hc)
  have e := nmV_snoc w c
  have i1 : i64 (nmV (w ++ [c])) = nmV (w ++ [c]) := i64_id (by omega) (by omega)
  have i2 : i64 27 = 27 := by decide
  have d : Int.tdiv (nmV (w ++ [c])) 27 = nmV w := by
    rw [Int.tdiv_eq_ediv_of_nonneg hb2.1, e]
    omega
  unfold ldiv lrem
  rw [i1, i2, d]
  exact ⟨rfl, by omega, by omega, hb2.2⟩
theorem letter67 (K : Int → Int → Int → MS → Option (Int × MS)) (a v : Int) : ∀ (m : Nat) (w : List Int) (k : Int) (fuel : Nat), w.length = m → m ≤ 6 → (∀ y ∈ w, 97 ≤ y ∧ y ≤ 122) → m < fuel → m_letter_L67 K fuel a v k (nmV w) s = K a v (k + m) s := by
  intro m
  induction m with
  | zero =>
    intro w k fuel hw hm hy hf
    obtain ⟨g, rfl⟩ : ∃ g, fuel = g + 1 := ⟨fuel - 1, by omega⟩
    have : w = [] := List.length_eq_zero_iff.mp hw
    rw [this, m_letter_L67]
    refine st_t (by decide) ?_
    rw [show k + ((0 : Nat) : Int) = k by omega]
  | succ m ih =>
    intro w k fuel hw hm hy hf
    obtain ⟨g, rfl⟩ : ∃ g, fuel = g + 1 := ⟨fuel - 1, by omega⟩
    rcases List.eq_nil_or_concat w with h | ⟨w', c, h⟩
    · rw [h] at hw; cases hw
    · rw [List.concat_eq_append] at h
      rw [h] at hw hy ⊢
      rw [List.length_append, List.length_singleton] at hw
      obtain ⟨q1, q2, q3, q4⟩ := nmV_div (w := w') (c := c) (fun y h1 => hy y (List.mem_append_left _ h1)) (by omega) (hy c (by simp))
      rw [m_letter_L67]
      refine st_f (by rw [i64_id (by omega) (by omega), show i64 0 = 0 by decide]; omega) (st_bnd (st_be q1 ?_))
      rw [ih w' (k + 1) g (by omega) (by omega) (fun y h1 => hy y (List.mem_append_left _ h1)) (by omega), show k + 1 + (m : Int) = k + ((m + 1 : Nat) : Int) by omega]
theorem letter102 (K : Int → MS → Option (Int × MS)) {k : Nat} : ∀ (m : Nat) (w : List Int) (fuel : Nat), w.length = k + 1 + m → w.length ≤ 6 → (∀ y ∈ w, 97 ≤ y ∧ y ≤ 122) → m < fuel → m_letter_L102 K fuel k (nmV w) ((w.length : Int) - 1) s = K (nmV (w.take (k + 1))) s := by
  intro m
  induction m with
  | zero =>
    intro w fuel hw hm hy hf
    obtain ⟨g, rfl⟩ : ∃ g, fuel = g + 1 := ⟨fuel - 1, by omega⟩
    rw [m_letter_L102, List.take_of_length_le (by omega)]
    exact st_t (by rw [i32_id (by omega) (by omega), i32_id (by omega) (by omega)]; omega) rfl
  | succ m ih =>
    intro w fuel hw hm hy hf
    obtain ⟨g, rfl⟩ : ∃ g, fuel = g + 1 := ⟨fuel - 1, by omega⟩
    rcases List.eq_nil_or_concat w with h | ⟨w', c, h⟩
    · rw [h] at hw; simp at hw
    · rw [List.concat_eq_append] at h
      rw [h] at hw hy hm ⊢
      rw [List.length_append, List.length_singleton] at hw hm
      obtain ⟨q1, q2, q3, q4⟩ := nmV_div (w := w') (c := c) (fun y h1 => hy y (List.mem_append_left _ h1)) (by omega) (hy c (by simp))
      rw [m_letter_L102, List.length_append, List.length_singleton]
      refine st_f (by rw [i32_id (by omega) (by omega), i32_id (by omega) (by omega)]; omega) (st_be q1 (st_bnd ?_))
      have e := ih w' g (by omega) (by omega) (fun y h1 => hy y (List.mem_append_left _ h1)) (by omega)
      rw [List.take_append_of_le_length (by omega), ← e]
      congr 1
      omega
theorem CLs.letter (h : INV τ s N es fs ws vs) (ha : rgI a) (hb : rgI b) (hc : rgI c) : CL τ s (x0_letter a b c τ) (m_letter a b c s) := by
  have hn := h.le
  obtain ⟨⟨⟨c0, ct⟩, l1, l2⟩, ⟨⟨a1, -⟩, b1, -⟩, -⟩ := id h.2.2.2.1
  have xk := is2_ev (b := 0) (c := 5) τ hc ⟨by decide, by decide⟩ ⟨by decide, by decide⟩
  have xa := is2_ev (b := 0) (c := 1) τ ha ⟨by decide, by decide⟩ ⟨by decide, by decide⟩
  have mk : m_isIn (i32 c) 0 5 s = some (b2i (decide (0 ≤ c ∧ c ≤ 5)), s) := by rw [hc.e]; exact isIn2_ev s hc ⟨by decide, by decide⟩ ⟨by decide, by decide⟩
  have ma : m_isIn (i32 a) 0 1 s = some (b2i (decide (0 ≤ a ∧ a ≤ 1)), s) := by rw [ha.e]; exact isIn2_ev s ha ⟨by decide, by decide⟩ ⟨by decide, by decide⟩
  unfold x0_letter m_letter
  by_cases ca : 0 ≤ a ∧ a ≤ 1
  · have ia : i32 (2 + a) = 2 + a := i32_id (by omega) (by omega)
    have ok2 : ok 4 (2 + a) := by unfold ok; rw [ia]; omega
    -- the list asked
    obtain ⟨lc, xs, us, L1, L2, L3, L4, L5, L6⟩ : ∃ (lc : Int) (xs : List Int) (us : List (List Int)), (lstX τ (dnN N) lc xs) ∧ (lc = if a = 0 then τ (τ 0 0) 4 else τ (τ 0 0) 5) ∧ xs.length = us.length ∧ us.length ≤ 7 ∧ s 36 (2 + a) = (us.length : Int) ∧ ∀ (i : Nat) (x : Int) (w : List Int), xs[i]? = some x → us[i]? = some w → ((dyn x ∧ (τ x (-1) = 9 ∨ τ x (-1) = 10)) ∧ strX τ (τ x 0) w) ∧ s 37 (16 + 8 * a + i) = nmV w ∧ wdO w := by
      by_cases q : a = 0
      · refine ⟨_, es, ws, l1, by rw [if_pos q], a1.1, by omega, by rw [q]; exact hn.2.2.1, fun i x w e1 e2 => ?_⟩
        obtain ⟨p1, p2, p3, p4⟩ := a1.2 i x w e1 e2
        exact ⟨⟨⟨p1.1, Or.inl p1.2⟩, p2⟩, by rw [q, ← p3]; rfl, p4⟩
      · have q1 : a = 1 := by omega
        refine ⟨_, fs, vs, l2, by rw [if_neg q], b1.1, by omega, by rw [q1]; exact hn.2.2.2, fun i x w e1 e2 => ?_⟩
        obtain ⟨p1, p2, ⟨p3, p4⟩, -⟩ := b1.2 i x w e1 e2
        exact ⟨⟨⟨p1.1, Or.inr p1.2⟩, p2⟩, by rw [q1, ← p3]; rfl, p4⟩
    have ml : m_isIn (i32 b) 0 (i32 ((s 36 (i32 (2 + a))) - 1)) s = some (b2i (decide (0 ≤ b ∧ b ≤ (us.length : Int) - 1)), s) := by
      rw [hb.e, ia, L5, i32_id (by omega) (by omega)]
      exact isIn2_ev s hb ⟨by decide, by decide⟩ ⟨by omega, by omega⟩
    have lcn : ¬ lc = -1 := dyn_ne L1.1.1.1
    have lct : tg true τ lc = 21 := tgd L1.1.1.1 L1.1.2
    have sz := size_ev dnN_dyn L1
    by_cases ck : 0 ≤ c ∧ c ≤ 5
    · by_cases cb : 0 ≤ b
      · have X : ∀ {r : Option (Int × XS)}, (gd (tg true τ lc = 21) <|
            Option.bind (j2_size true lc τ) fun z13 =>
            if i32 z13.1 ≤ i32 b then
              some ((-1), z13.2)
            else
              gd (tg true z13.2 lc = 21) <|
              Option.bind (j2_get true lc b z13.2) fun z16 =>
              gd (isNa (tg true z16.2 z16.1)) <|
              gd (isNa (tg true z16.2 z16.1)) <|
              Option.bind (x9_letter true z16.1 c z16.2) fun z19 =>
              some (z19.1, z19.2)) = r → x0_letter a b c τ = r := fun {r} hr => by
          unfold x0_letter
          refine st_bind xk (st_f (z1b ck) (st_bind xa (st_f (z1b ca) (st_t (by rw [hb.e]; exact cb) (st_bnd ?_)))))
          by_cases q : a = 0
          · rw [if_pos q] at L2
            refine st_t (by rw [q]; exact i32_0) (st_gd (dyn_ne c0.1) (st_gd (tgd c0.1 ct) (st_gd ?_ ?_)))
            · dsimp only; rw [← L2]; exact lcn
            · dsimp only; subst L2; exact hr
          · rw [if_neg q] at L2
            refine st_f (by rw [ha.e]; exact q) (st_gd (dyn_ne c0.1) (st_gd (tgd c0.1 ct) (st_gd ?_ ?_)))
            · dsimp only; rw [← L2]; exact lcn
            · dsimp only; subst L2; exact hr
        unfold x0_letter at X
        by_cases cl : b < us.length
        · have nle : ¬ i32 (xs.length : Int) ≤ i32 b := by rw [L3, hb.e, i32_id (by omega) (by omega)]; omega
          have hl : b.toNat < xs.length := by omega
          have hl2 : b.toNat < us.length := by omega
          obtain ⟨x, ex⟩ : ∃ x, xs[b.toNat] = x := ⟨_, rfl⟩
          obtain ⟨w, ew⟩ : ∃ w, us[b.toNat] = w := ⟨_, rfl⟩
          have gx : xs[b.toNat]? = some x := by rw [List.getElem?_eq_getElem hl, ex]
          obtain ⟨⟨p1, p2⟩, p3, p4⟩ := L6 b.toNat x w gx (by rw [List.getElem?_eq_getElem hl2, ew])
          have eb : ((b.toNat : Nat) : Int) = b := by omega
          rw [eb] at p3
          have gg := get_ev dnN_dyn L1 gx
          rw [eb] at gg
          have na := tg_na p1
          have ip : i32 (16 + 8 * a + b) = 16 + 8 * a + b := i32_id (by omega) (by omega)
          have okp : ok 32 (16 + 8 * a + b) := by unfold ok; rw [ip]; omega
          have nb : 0 ≤ b ∧ b ≤ (us.length : Int) - 1 := by omega
          have w6 : w.length ≤ 6 := p4.1
          have len := length_ev p2
          have st0 := fre_ne p2.1.1
          have tst := tgf (t := 22) p2.1.1 p2.1.2
          have fu := FU_ge
          have M : ∀ {r : Option (Int × MS)}, (if i32 c < i32 (w.length : Int) then
              bnd ((w.length : Int) - 1) fun x7_31 =>
              m_letter_L102
                (fun (x4_41 : Int) (s42 : MS) =>
                  some ((lrem x4_41 27), s42))
                FU c (nmV w) x7_31 s
            else
              some (0, s)) = r → m_letter a b c s = r := fun {r} hr => by
            unfold m_letter
            refine st_bind ma (st_f (z1b ca) (st_gd ok2 (st_bind ml (st_f (z1b nb) (st_bind mk (st_f (z1b ck) (st_gd okp (st_be (e' := nmV w) ?_ (st_bnd ?_)))))))))
            · dsimp only; rw [ip, p3]
            · have e := letter67 (s := s) (fun (x3_26 : Int) (x4_27 : Int) (x6_28 : Int) (s29 : MS) =>
            if i32 x3_26 < i32 x6_28 then
              bnd (x6_28 - 1) fun x7_31 =>
              m_letter_L102
                (fun (x4_41 : Int) (s42 : MS) =>
                  some ((lrem x4_41 27), s42))
                FU x3_26 x4_27 x7_31 s29
            else
              some (0, s29)) c (nmV w) w.length w 0 FU rfl p4.1 p4.2 (by have := p4.1; omega)
              rw [Int.zero_add] at e
              exact e.trans hr
          unfold m_letter at M
          by_cases cw : c < w.length
          · have hc0 : c.toNat < w.length := by omega
            have ec : ((c.toNat : Nat) : Int) = c := by omega
            obtain ⟨y, ey⟩ : ∃ y, w[c.toNat] = y := ⟨_, rfl⟩
            have gy : w[c.toNat]? = some y := by rw [List.getElem?_eq_getElem hc0, ey]
            have hy := p4.2 y (by rw [← ey]; exact List.getElem_mem hc0)
            have ch := charAt6_ev p2 gy
            rw [ec] at ch
            have tk : w.take (c.toNat + 1) = w.take c.toNat ++ [y] := by rw [List.take_succ_eq_append_getElem hc0, ey]
            obtain ⟨-, q2, -⟩ := nmV_div (w := w.take c.toNat) (c := y) (fun z hz => p4.2 z (List.mem_of_mem_take hz)) (by rw [List.length_take]; have := p4.1; omega) hy
            have lt := letter102 (s := s) (fun (x4_41 : Int) (s42 : MS) => some ((lrem x4_41 27), s42)) (k := c.toNat) (w.length - c.toNat - 1) w FU (by omega) p4.1 p4.2 (by have := p4.1; omega)
            rw [ec, tk, q2] at lt
            have nlw : ¬ i32 (w.length : Int) ≤ i32 c := by rw [hc.e, i32_id (by omega) (by omega)]; omega
            refine h.same (z := y - 97 + 1) (X (st_gd lct (st_bind sz (st_f nle (st_gd lct (st_bind gg (st_gd na (st_gd na (st_bind (z := (y - 97 + 1, τ)) ?_ rfl))))))))) (M (st_t ?_ (st_bnd ?_)))
            · unfold x9_letter
              exact st_gd na (st_gd st0 (st_gd tst (st_bind len (st_f nlw (st_gd na (st_gd st0 (st_gd tst (st_bind ch rfl))))))))
            · rw [hc.e, i32_id (by omega) (by omega)]; exact cw
            · rw [lt, show y - 97 + 1 = y - 96 by omega]
          · have nlw : i32 (w.length : Int) ≤ i32 c := by rw [hc.e, i32_id (by omega) (by omega)]; omega
            refine h.same (z := 0) (X (st_gd lct (st_bind sz (st_f nle (st_gd lct (st_bind gg (st_gd na (st_gd na (st_bind (z := (0, τ)) ?_ rfl))))))))) (M (st_f ?_ rfl))
            · unfold x9_letter
              exact st_gd na (st_gd st0 (st_gd tst (st_bind len (st_t nlw rfl))))
            · rw [hc.e, i32_id (by omega) (by omega)]; exact cw
        · have le : i32 (xs.length : Int) ≤ i32 b := by rw [L3, hb.e, i32_id (by omega) (by omega)]; omega
          exact h.same (X (st_gd lct (st_bind sz (st_t le rfl)))) (st_bind ma (st_f (z1b ca) (st_gd ok2 (st_bind ml (st_t (z0b (by omega)) rfl)))))
      · refine h.same (st_bind xk (st_f (z1b ck) (st_bind xa (st_f (z1b ca) (st_f (by rw [hb.e]; exact cb) rfl))))) (st_bind ma (st_f (z1b ca) (st_gd ok2 (st_bind ml (st_t (z0b (by omega)) rfl)))))
    · by_cases cl : 0 ≤ b ∧ b ≤ (us.length : Int) - 1
      · exact h.same (st_bind xk (st_t (z0b ck) rfl)) (st_bind ma (st_f (z1b ca) (st_gd ok2 (st_bind ml (st_f (z1b cl) (st_bind mk (st_t (z0b ck) rfl)))))))
      · exact h.same (st_bind xk (st_t (z0b ck) rfl)) (st_bind ma (st_f (z1b ca) (st_gd ok2 (st_bind ml (st_t (z0b cl) rfl)))))
  · by_cases ck : 0 ≤ c ∧ c ≤ 5
    · exact h.same (st_bind xk (st_f (z1b ck) (st_bind xa (st_t (z0b ca) rfl)))) (st_bind ma (st_t (z0b ca) rfl))
    · exact h.same (st_bind xk (st_t (z0b ck) rfl)) (st_bind ma (st_t (z0b ca) rfl))
end
