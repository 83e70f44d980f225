set_option maxRecDepth 100000
/-! LAYER 2: the reference runs codes -/
section
variable {s s' : MS} {fl : Bool} {pt : Int → Int} {of : Int → Int → Int}
theorem jn_hi {c a b : Int} (h : ¬ c = 1) (h2 : ¬ c = 2) (h3 : ¬ c = 3) (h4 : ¬ c = 4) (h5 : ¬ c = 5) (h6 : ¬ c = 6) (h7 : ¬ c = 7) (h8 : ¬ c = 8) (h9 : ¬ c = 9) (h10 : ¬ c = 10) : jn c a b = b2i (decide (0 < a + b)) := by
  unfold jn
  rw [if_neg h, if_neg h2, if_neg h3, if_neg h4, if_neg h5, if_neg h6, if_neg h7, if_neg h8, if_neg h9, if_neg h10]
/-- the pile holds st, the newest first -/
def plR (s : MS) (st : List Int) : Prop := s 103 0 = st.length ∧ hR s 102 st.reverse
theorem plR.kp {st : List Int} (h : plR s st) (e1 : s' 102 = s 102) (e2 : s' 103 = s 103) : plR s' st := ⟨by rw [e2]; exact h.1, h.2.of e1⟩
theorem qPuts_ev {st : List Int} {v : Int} (h : plR s st) (hl : st.length < 1690) : ∃ s', m_qPuts v s = some (0, s') ∧ only [102, 103] s s' ∧ plR s' (v :: st) := by
  have e0 : i32 (s 103 0) = st.length := by rw [h.1]; exact i32_id (by omega) (by omega)
  have k0 : ok 1700 (s 103 0) := by unfold ok; rw [e0]; omega
  refine ⟨up (up s 102 st.length v) 103 0 (st.length + 1), ?_, (only.up (by decide)).tr (only.up (by decide)), ?_, ?_⟩
  · unfold m_qPuts
    refine st_gd k0 (st_bnd (st_bnd ?_))
    rw [e0, up_row (by decide), h.1]
  · rw [up_s, List.length_cons]; omega
  · rw [List.reverse_cons]
    have := h.2.snoc v
    rw [List.length_reverse] at this
    exact this.of (up_row (by decide))
theorem plR.top {st : List Int} {v : Int} (h : plR s (v :: st)) : s 102 st.length = v := by
  have h2 := h.2
  rw [List.reverse_cons] at h2
  have := h2.last
  rw [List.length_reverse] at this
  exact this
theorem plR.pop {st : List Int} {v : Int} (h : plR s (v :: st)) : plR (up s 103 0 st.length) st := by
  have h2 := h.2
  rw [List.reverse_cons] at h2
  exact ⟨by rw [up_s], h2.pre.of (up_row (by decide))⟩
theorem plR.chg {st : List Int} {v w : Int} (h : plR s (v :: st)) : plR (up s 102 st.length w) (w :: st) := by
  have h2 := h.2
  rw [List.reverse_cons] at h2
  refine ⟨by rw [up_row (by decide)]; exact h.1, ?_⟩
  have := h2.pre.snoc w
  rw [List.length_reverse] at this
  rw [List.reverse_cons]
  exact this
theorem i64_s {v : Int} (h : -4000000000000 ≤ v ∧ v ≤ 4000000000000) : i64 v = v := i64_id (by omega) (by omega)
theorem qClip_ev {v : Int} (h : -4000000000000 ≤ v ∧ v ≤ 4000000000000) : m_qClip v s = some (clp v, s) := by
  have e1 := i64_s h
  have e2 : i64 1000000 = 1000000 := by decide
  have e3 : i64 (-1000000) = -1000000 := by decide
  unfold m_qClip
  by_cases c1 : v ≤ 1000000
  · by_cases c2 : -1000000 ≤ v
    · rw [clp_id c2 c1]
      exact st_t (by rw [e1, e2]; exact c1) (st_t (by rw [e1, e3]; exact c2) rfl)
    · have e : clp v = -1000000 := by unfold clp; rw [if_neg (by omega), if_pos (by omega)]
      rw [e]
      exact st_t (by rw [e1, e2]; exact c1) (st_f (by rw [e1, e3]; exact c2) rfl)
  · have e : clp v = 1000000 := by unfold clp; rw [if_pos (by omega)]
    rw [e]
    exact st_f (by rw [e1, e2]; exact c1) rfl
theorem qFloor_ev {a b : Int} (ha : bd1 a) (hb : bd1 b) : m_qFloor a b s = some (flr a b, s) := by
  unfold bd1 at ha hb
  have ea : i64 a = a := i64_s (by omega)
  have eb : i64 b = b := i64_s (by omega)
  have e0 : i64 0 = 0 := by decide
  unfold m_qFloor flr
  by_cases b0 : b = 0
  · rw [if_pos b0]
    exact st_t (by rw [eb, e0]; exact b0) rfl
  · rw [if_neg b0]
    have el : ldiv a b = Int.tdiv a b := by unfold ldiv; rw [ea, eb]
    have er : lrem a b = a - Int.tdiv a b * b := by unfold lrem; rw [ea, eb]
    have ht := tdiv_b (a := a) b0
    have hprod : (Int.tdiv a b * b).natAbs ≤ 1000000 * 1000000 := by
      rw [Int.natAbs_mul]
      exact Nat.mul_le_mul (by omega) (by omega)
    have er2 : i64 (a - Int.tdiv a b * b) = a - Int.tdiv a b * b := i64_s (by omega)
    have nb0 : ¬ i64 b = 0 := by rw [eb]; exact b0
    have nb1 : ¬ i64 b = i64 0 := by rw [e0]; exact nb0
    refine st_f nb1 (st_gd nb0 (st_bnd (st_gd nb0 (st_bnd ?_))))
    have z01 : ¬ i32 0 = i32 1 := by decide
    have z10 : ¬ i32 1 = i32 0 := by decide
    by_cases c1 : a - Int.tdiv a b * b = 0
    · refine st_t (by rw [er, er2, e0]; exact c1) ?_
      rw [if_neg (by simp [c1])]
      show some (ldiv a b, s) = _
      rw [el]
    · refine st_f (by rw [er, er2, e0]; exact c1) (st_bnd ?_)
      by_cases a0 : 0 ≤ a
      · refine st_t (by rw [e0, ea]; exact a0) (st_bnd ?_)
        by_cases b1 : 0 ≤ b
        · refine st_t (by rw [e0, eb]; exact b1) (st_t rfl ?_)
          rw [if_neg (by rw [decide_eq_false (show ¬ a < 0 by omega), decide_eq_false (show ¬ b < 0 by omega)]; simp)]
          show some (ldiv a b, s) = _
          rw [el]
        · refine st_f (by rw [e0, eb]; exact b1) (st_f z01 ?_)
          rw [if_pos ⟨c1, by rw [decide_eq_false (show ¬ a < 0 by omega), decide_eq_true (show b < 0 by omega)]; simp⟩]
          show some (ldiv a b - 1, s) = _
          rw [el]
      · refine st_f (by rw [e0, ea]; exact a0) (st_bnd ?_)
        by_cases b1 : 0 ≤ b
        · refine st_t (by rw [e0, eb]; exact b1) (st_f z10 ?_)
          rw [if_pos ⟨c1, by rw [decide_eq_true (show a < 0 by omega), decide_eq_false (show ¬ b < 0 by omega)]; simp⟩]
          show some (ldiv a b - 1, s) = _
          rw [el]
        · refine st_f (by rw [e0, eb]; exact b1) (st_t rfl ?_)
          rw [if_neg (by rw [decide_eq_true (show a < 0 by omega), decide_eq_true (show b < 0 by omega)]; simp)]
          show some (ldiv a b, s) = _
          rw [el]
theorem qJoins_ev {st : List Int} {a b c : Int} (h : plR s (b :: a :: st)) (ha : bd1 a) (hb : bd1 b) (hc : 0 ≤ c ∧ c < 40) (hl : st.length < 1680) : ∃ s', m_qJoins c s = some (0, s') ∧ only [102, 103] s s' ∧ plR s' (jn c a b :: st) := by
  have hL : s 103 0 = st.length + 2 := by rw [h.1]; simp; omega
  have e1 : i32 (s 103 0 - 1) = st.length + 1 := by rw [hL, i32_id (by omega) (by omega)]; omega
  have e2 : i32 (s 103 0 - 2) = st.length := by rw [hL, i32_id (by omega) (by omega)]; omega
  have k1 : ok 1700 (s 103 0 - 1) := by unfold ok; rw [e1]; omega
  have k2 : ok 1700 (s 103 0 - 2) := by unfold ok; rw [e2]; omega
  have tb : s 102 (i32 (s 103 0 - 1)) = b := by rw [e1]; have := h.top; simpa using this
  have ta : s 102 (i32 (s 103 0 - 2)) = a := by
    rw [e2]
    have := h.pop.top
    rw [up_row (by decide)] at this
    exact this
  obtain ⟨s6, e6⟩ : ∃ s6, up s 103 0 (s 103 0 - 2) = s6 := ⟨_, rfl⟩
  have p6 : plR s6 st := by
    have := h.pop.pop
    rw [up_up] at this
    rw [← e6, hL, show (st.length : Int) + 2 - 2 = st.length by omega]
    exact this
  have o6 : only [102, 103] s s6 := by rw [← e6]; exact only.up (by decide)
  have ic : i32 c = c := i32_id (by omega) (by omega)
  have z0 : i64 0 = 0 := by decide
  unfold bd1 at ha hb
  have ia : i64 a = a := i64_s (by omega)
  have ib : i64 b = b := i64_s (by omega)
  have hm : -1000000000000 ≤ a * b ∧ a * b ≤ 1000000000000 := by
    have h1 : (a * b).natAbs ≤ 1000000 * 1000000 := by
      rw [Int.natAbs_mul]
      exact Nat.mul_le_mul (by omega) (by omega)
    omega
  have P : ∀ v, ∃ s', m_qPuts v s6 = some (0, s') ∧ only [102, 103] s s' ∧ plR s' (v :: st) := fun v => by
    obtain ⟨s', q1, q2, q3⟩ := qPuts_ev (v := v) p6 (by omega)
    exact ⟨s', q1, o6.tr q2, q3⟩
  obtain ⟨s', q1, q2, q3⟩ := P (jn c a b)
  refine ⟨s', ?_, q2, q3⟩
  unfold m_qJoins
  rw [tb, ta]
  refine st_gd k1 (st_bnd (st_gd k2 (st_bnd (st_be e6 ?_))))
  rw [ic]
  by_cases c1 : c = 1
  · rw [c1, jn_1] at q1
    exact st_t c1 (st_bind (qClip_ev (by omega)) (st_bind q1 rfl))
  refine st_f c1 ?_
  by_cases c2 : c = 2
  · rw [c2, jn_2] at q1
    exact st_t c2 (st_bind (qClip_ev (by omega)) (st_bind q1 rfl))
  refine st_f c2 ?_
  by_cases c3 : c = 3
  · rw [c3, jn_3] at q1
    exact st_t c3 (st_bind (qClip_ev (by omega)) (st_bind q1 rfl))
  refine st_f c3 ?_
  by_cases c4 : c = 4
  · rw [c4, jn_4] at q1
    exact st_t c4 (st_bind (qFloor_ev ha hb) (st_bind q1 rfl))
  refine st_f c4 ?_
  rw [ia, ib]
  by_cases c5 : c = 5
  · rw [c5, jn_5] at q1
    refine st_t c5 (st_bnd ?_)
    by_cases g : b ≤ a
    · rw [if_neg (by omega)] at q1
      exact st_t g (st_bind q1 rfl)
    · rw [if_pos (by omega)] at q1
      exact st_f g (st_bind q1 rfl)
  refine st_f c5 ?_
  by_cases c6 : c = 6
  · rw [c6, jn_6] at q1
    refine st_t c6 (st_bnd ?_)
    by_cases g : a ≤ b
    · rw [if_neg (by omega)] at q1
      exact st_t g (st_bind q1 rfl)
    · rw [if_pos (by omega)] at q1
      exact st_f g (st_bind q1 rfl)
  refine st_f c6 ?_
  by_cases c7 : c = 7
  · rw [c7, jn_7] at q1
    refine st_t c7 (st_bnd ?_)
    by_cases g : b ≤ a
    · rw [decide_eq_false (by omega)] at q1
      exact st_t g (st_bind q1 rfl)
    · rw [decide_eq_true (by omega)] at q1
      exact st_f g (st_bind q1 rfl)
  refine st_f c7 ?_
  by_cases c8 : c = 8
  · rw [c8, jn_8] at q1
    refine st_t c8 (st_bnd ?_)
    by_cases g : a ≤ b
    · rw [decide_eq_false (by omega)] at q1
      exact st_t g (st_bind q1 rfl)
    · rw [decide_eq_true (by omega)] at q1
      exact st_f g (st_bind q1 rfl)
  refine st_f c8 ?_
  by_cases c9 : c = 9
  · rw [c9, jn_9] at q1
    refine st_t c9 (st_bnd ?_)
    by_cases g : a = b
    · rw [decide_eq_true g] at q1
      exact st_t g (st_bind q1 rfl)
    · rw [decide_eq_false g] at q1
      exact st_f g (st_bind q1 rfl)
  refine st_f c9 ?_
  by_cases c10 : c = 10
  · rw [c10, jn_10] at q1
    exact st_t c10 (st_bind q1 rfl)
  refine st_f c10 (st_bnd ?_)
  rw [jn_hi c1 c2 c3 c4 c5 c6 c7 c8 c9 c10] at q1
  rw [i64_s (show -4000000000000 ≤ a + b ∧ a + b ≤ 4000000000000 by omega), z0]
  by_cases g : a + b ≤ 0
  · rw [decide_eq_false (by omega)] at q1
    exact st_t g (st_bind q1 rfl)
  · rw [decide_eq_true (by omega)] at q1
    exact st_f g (st_bind q1 rfl)
/-- a step that both loops have: what stands below forty -/
theorem qNot_ev {st : List Int} {v : Int} (h : plR s (v :: st)) (hl : st.length < 1680) : ok 1700 (s 103 0 - 1) ∧ plR (up s 102 (i32 (s 103 0 - 1)) (1 - s 102 (i32 (s 103 0 - 1)))) ((1 - v) :: st) := by
  have hL : s 103 0 = st.length + 1 := by rw [h.1]; simp
  have e1 : i32 (s 103 0 - 1) = st.length := by rw [hL, i32_id (by omega) (by omega)]; omega
  refine ⟨by unfold ok; rw [e1]; omega, ?_⟩
  rw [e1, h.top]
  exact h.chg
/-- what the pile's steps keep -/
def kpl : List Nat := [102, 103]
theorem tell_go (K : MS → Option (Int × MS)) {wh a : Int} (hwh : 0 ≤ wh ∧ wh < 3) (s0 : MS) {fr to : Int} (hto : s0 42 (3 + wh) = to ∧ 0 ≤ fr ∧ to ≤ 1600) (hpt : ∀ s, only [102, 103] s0 s → ∀ k, alw false k → m_qPartOf k a s = some (pt k, s)) :
    ∀ (cs : List Int) (st st' : List Int) (s : MS) (i : Int) (fuel : Nat), fr ≤ i → i + cs.length = to → (∀ (j : Nat) (x : Int), cs[j]? = some x → s0 43 (1600 + i + j) = x) → only [102, 103] s0 s → plR s st → rnB false pt of cs st st' → (∀ x ∈ st, bd1 x) → st.length + cs.length < 1670 → cs.length < fuel →
    ∃ s', m_codesTell_L25 K fuel wh a i s = K s' ∧ only [102, 103] s0 s' ∧ plR s' st' := by
  have ok3 : ok 6 (3 + wh) := by unfold ok; rw [i32_id (by omega) (by omega)]; omega
  have i3 : i32 (3 + wh) = 3 + wh := i32_id (by omega) (by omega)
  intro cs
  induction cs with
  | nil =>
    intro st st' s i fuel hi hit hc ho hp hr hb hl hf
    obtain ⟨g, rfl⟩ : ∃ g, fuel = g + 1 := ⟨fuel - 1, by omega⟩
    rw [rnB] at hr
    rw [List.length_nil] at hit
    rw [hr]
    refine ⟨s, ?_, ho, hp⟩
    rw [m_codesTell_L25]
    refine st_gd ok3 (st_t ?_ rfl)
    rw [i3, ho 42 (by decide), hto.1, i32_id (by omega) (by omega), i32_id (by omega) (by omega)]
    omega
  | cons c cs ih =>
    intro st st' s i fuel hi hit hc ho hp hr hb hl hf
    obtain ⟨g, rfl⟩ : ∃ g, fuel = g + 1 := ⟨fuel - 1, by omega⟩
    rw [rnB] at hr
    obtain ⟨hok, st1, h1, h2, h3⟩ := hr
    rw [List.length_cons] at hit hl hf
    have hc0 := hc 0 c rfl
    have ii : i32 (1600 + i) = 1600 + i := i32_id (by omega) (by omega)
    have ec : s 43 (i32 (1600 + i)) = c := by rw [ii, ho 43 (by decide), ← hc0]; simp
    have okk : ok 3200 (1600 + i) := by unfold ok; rw [ii]; omega
    have nle : ¬ i32 (s 42 (i32 (3 + wh))) ≤ i32 i := by rw [i3, ho 42 (by decide), hto.1, i32_id (by omega) (by omega), i32_id (by omega) (by omega)]; omega
    have hcr : 0 ≤ c ∧ c ≤ 20000 := by unfold okc at hok; omega
    have ic : i32 c = c := i32_id (by omega) (by omega)
    have z1000 : i32 1000 = 1000 := by decide
    have z40 : i32 40 = 40 := by decide
    have z13 : i32 13 = 13 := by decide
    have z12 : i32 12 = 12 := by decide
    have len1 : st1.length ≤ st.length + 1 := by
      revert h1
      unfold stq
      split
      · intro h; cases h; simp
      · split
        · split
          · intro h; cases h; simp
          · intro h; cases h
        · split
          · intro h; cases h; simp
          · split
            · intro h; cases h; simp
            · split
              · split
                · intro h; cases h; simp
                · intro h; cases h
              · split
                · intro h; cases h; simp
                · intro h; cases h
    have nx : ∀ s1, only [102, 103] s s1 → plR s1 st1 → ∃ s', m_codesTell_L25 K g wh a (i + 1) s1 = K s' ∧ only [102, 103] s0 s' ∧ plR s' st' := fun s1 o1 p1 => by
      refine ih st1 st' s1 (i + 1) g (by omega) (by omega) (fun j x hj => ?_) (ho.tr o1) p1 h3 h2 (by omega) (by omega)
      have := hc (j + 1) x (by simpa using hj)
      rw [← this]
      congr 1
      push_cast
      omega
    rw [m_codesTell_L25]
    have head : ∀ {x : Option (Int × MS)}, (if i32 c < i32 1000 then
        if i32 c < i32 40 then
          if i32 c = i32 13 then
            Option.bind (m_qPuts 1 s) fun z32 => m_codesTell_L25 K g wh a (i + 1) z32.2
          else
            if i32 c = i32 12 then
              gd (ok 1700 ((s 103 0) - 1)) <|
              gd (ok 1700 ((s 103 0) - 1)) <|
              bnd (up s 102 (i32 ((s 103 0) - 1)) (1 - (s 102 (i32 ((s 103 0) - 1))))) fun s31 =>
              m_codesTell_L25 K g wh a (i + 1) s31
            else
              Option.bind (m_qJoins c s) fun z28 => m_codesTell_L25 K g wh a (i + 1) z28.2
        else
          Option.bind (m_qPartOf (c - 40) a s) fun z33 =>
          Option.bind (m_qPuts z33.1 z33.2) fun z34 => m_codesTell_L25 K g wh a (i + 1) z34.2
      else
        Option.bind (m_qPuts (i32 (c - 1000)) s) fun z35 => m_codesTell_L25 K g wh a (i + 1) z35.2) = x → (gd (ok 6 (3 + wh)) <|
    if i32 (s 42 (i32 (3 + wh))) ≤ i32 i then
      K s
    else
      gd (ok 3200 (1600 + i)) <|
      bnd (s 43 (i32 (1600 + i))) fun x5_17 =>
      bnd (fun (x1_18 : Int) (x2_19 : Int) (x4_20 : Int) (s21 : MS) =>
          bnd (x4_20 + 1) fun x4_22 =>
          m_codesTell_L25 K g x1_18 x2_19 x4_22 s21) fun j23 =>
      if i32 x5_17 < i32 1000 then
        if i32 x5_17 < i32 40 then
          if i32 x5_17 = i32 13 then
            Option.bind (m_qPuts 1 s) fun z32 =>
            j23 wh a i z32.2
          else
            if i32 x5_17 = i32 12 then
              gd (ok 1700 ((s 103 0) - 1)) <|
              gd (ok 1700 ((s 103 0) - 1)) <|
              bnd (up s 102 (i32 ((s 103 0) - 1)) (1 - (s 102 (i32 ((s 103 0) - 1))))) fun s31 =>
              j23 wh a i s31
            else
              Option.bind (m_qJoins x5_17 s) fun z28 =>
              j23 wh a i z28.2
        else
          Option.bind (m_qPartOf (x5_17 - 40) a s) fun z33 =>
          Option.bind (m_qPuts z33.1 z33.2) fun z34 =>
          j23 wh a i z34.2
      else
        Option.bind (m_qPuts (i32 (x5_17 - 1000)) s) fun z35 =>
        j23 wh a i z35.2) = x := fun {x} h => st_gd ok3 (st_f nle (st_gd okk (st_be ec (st_bnd h))))
    unfold stq at h1
    by_cases g1 : 1000 ≤ c
    · rw [if_pos g1] at h1
      cases h1
      obtain ⟨s1, q1, q2, q3⟩ := qPuts_ev (v := c - 1000) hp (by omega)
      obtain ⟨s', r1, r2, r3⟩ := nx s1 q2 q3
      refine ⟨s', head (st_f (by rw [ic, z1000]; omega) (st_bind (z := (0, s1)) ?_ r1)), r2, r3⟩
      rw [i32_id (by omega) (by omega)]
      exact q1
    · rw [if_neg g1] at h1
      have l1 : i32 c < i32 1000 := by rw [ic, z1000]; omega
      by_cases g2 : 40 ≤ c
      · have hk : c < 60 ∧ alw false (c - 40) := by
          unfold okc at hok
          rcases hok with h | h | h | h
          · omega
          · exact h.2
          · exact absurd h.1 (by simp)
          · omega
        rw [if_neg (by omega), if_pos g2] at h1
        cases h1
        obtain ⟨s1, q1, q2, q3⟩ := qPuts_ev (v := pt (c - 40)) hp (by omega)
        obtain ⟨s', r1, r2, r3⟩ := nx s1 q2 q3
        exact ⟨s', head (st_t l1 (st_f (by rw [ic, z40]; omega) (st_bind (hpt s ho (c - 40) hk.2) (st_bind q1 r1)))), r2, r3⟩
      · have l2 : i32 c < i32 40 := by rw [ic, z40]; omega
        rw [if_neg (by omega), if_neg g2] at h1
        by_cases g3 : c = 13
        · rw [if_pos g3] at h1
          cases h1
          obtain ⟨s1, q1, q2, q3⟩ := qPuts_ev (v := 1) hp (by omega)
          obtain ⟨s', r1, r2, r3⟩ := nx s1 q2 q3
          exact ⟨s', head (st_t l1 (st_t l2 (st_t (by rw [g3]) (st_bind q1 r1)))), r2, r3⟩
        · have n3 : ¬ i32 c = i32 13 := by rw [ic, z13]; exact g3
          rw [if_neg g3] at h1
          by_cases g4 : c = 12
          · rw [if_pos g4] at h1
            cases st with
            | nil => cases h1
            | cons v r =>
              cases h1
              obtain ⟨q1, q2⟩ := qNot_ev hp (by simp at hl; omega)
              obtain ⟨s', r1, r2, r3⟩ := nx _ (only.up (by decide)) q2
              exact ⟨s', head (st_t l1 (st_t l2 (st_f n3 (st_t (by rw [g4]) (st_gd q1 (st_gd q1 (st_bnd r1))))))), r2, r3⟩
          · have n4 : ¬ i32 c = i32 12 := by rw [ic, z12]; exact g4
            rw [if_neg g4] at h1
            match st, h1, hp, hb, hl with
            | [], h1, _, _, _ => cases h1
            | [_], h1, _, _, _ => cases h1
            | b :: a' :: r, h1, hp, hb, hl =>
              cases h1
              obtain ⟨s1, q1, q2, q3⟩ := qJoins_ev hp (hb a' (by simp)) (hb b (by simp)) (c := c) (by omega) (by simp at hl; omega)
              obtain ⟨s', r1, r2, r3⟩ := nx s1 q2 q3
              exact ⟨s', head (st_t l1 (st_t l2 (st_f n3 (st_f n4 (st_bind q1 r1))))), r2, r3⟩
end
