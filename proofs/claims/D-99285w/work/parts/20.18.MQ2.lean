set_option maxRecDepth 100000
/-! LAYER 2: the reference reads sums, step by step -/
noncomputable def KPt : MS → Option (Int × MS) := fun (s55 : MS) =>
      if i32 (s55 5 0) = 0 then
        Option.bind (m_qWordOf 0 9 s55) fun z57 =>
        bnd z57.1 fun x2_58 =>
        bnd (fun (x2_59 : Int) (s60 : MS) =>
            bnd (fun (w61 : Int) (s62 : MS) =>
                Option.bind (m_qCode w61 s62) fun z63 =>
                Option.bind (m_qEndsPart z63.2) fun z64 =>
                some (0, z64.2)) fun j65 =>
            if i32 x2_59 = i32 (-1) then
              Option.bind (m_number 0 9999 s60) fun z67 =>
              j65 (1000 + z67.1) z67.2
            else
              j65 (40 + x2_59) s60) fun j68 =>
        if i32 x2_58 = i32 (-1) then
          j68 x2_58 z57.2
        else
          Option.bind (m_qAsksWord x2_58 z57.2) fun z70 =>
          j68 x2_58 z70.2
      else
        some (0, s55)
noncomputable def KGo : MS → Option (Int × MS) := fun (s29 : MS) =>
      Option.bind (m_takesSign 42 s29) fun z30 =>
      bnd (fun (s31 : MS) =>
          gd (ok 1600 ((s31 2 0) - 1)) <|
          bnd (fun (w33 : Int) (s34 : MS) =>
              m_qGoesOn_L162
                (fun (x1_47 : Int) (s48 : MS) =>
                  gd (ok 1700 (s48 99 0)) <|
                  bnd (up s48 98 (i32 (s48 99 0)) x1_47) fun s50 =>
                  bnd (up s50 99 0 ((s50 99 0) + 1)) fun s51 =>
                  some (1, s51))
                FU w33 s34) fun j52 =>
          if i32 (s31 0 (i32 ((s31 2 0) - 1))) = i32 42 then
            j52 3 s31
          else
            j52 4 s31) fun j54 =>
      if i32 z30.1 = 0 then
        Option.bind (m_takesSign 47 z30.2) fun z56 =>
        if i32 z56.1 = 0 then
          Option.bind (m_takesSign 43 z56.2) fun z58 =>
          bnd (fun (s59 : MS) =>
              gd (ok 1600 ((s59 2 0) - 1)) <|
              bnd (fun (w61 : Int) (s62 : MS) =>
                  m_qGoesOn_L247
                    (fun (x1_79 : Int) (s80 : MS) =>
                      gd (ok 1700 (s80 99 0)) <|
                      bnd (up s80 98 (i32 (s80 99 0)) x1_79) fun s82 =>
                      bnd (up s82 99 0 ((s82 99 0) + 1)) fun s83 =>
                      some (1, s83))
                    FU w61 s62) fun j84 =>
              if i32 (s59 0 (i32 ((s59 2 0) - 1))) = i32 43 then
                j84 1 s59
              else
                j84 2 s59) fun j86 =>
          if i32 z58.1 = 0 then
            Option.bind (m_takesSign 45 z58.2) fun z88 =>
            if i32 z88.1 = 0 then
              Option.bind (m_qBracket z88.2) fun z90 =>
              bnd (fun (s91 : MS) =>
                  Option.bind (m_asksSign 44 s91) fun z92 =>
                  if i32 (z92.2 5 0) = 0 then
                    Option.bind (m_qDropsToBracket z92.2) fun z94 =>
                    gd (ok 1700 ((z94.2 99 0) - 1)) <|
                    gd (ok 1700 ((z94.2 99 0) - 1)) <|
                    bnd (up z94.2 98 (i32 ((z94.2 99 0) - 1)) ((z94.2 98 (i32 ((z94.2 99 0) - 1))) + 2)) fun s97 =>
                    some (1, s97)
                  else
                    some (0, z92.2)) fun j98 =>
              if i32 z90.1 = i32 21 then
                j98 z90.2
              else
                Option.bind (m_qBracket z90.2) fun z100 =>
                if i32 z100.1 = i32 22 then
                  j98 z100.2
                else
                  Option.bind (m_qBracket z100.2) fun z102 =>
                  if i32 z102.1 = i32 (-1) then
                    some (0, z102.2)
                  else
                    if i32 (z102.2 5 0) = 0 then
                      Option.bind (m_fail 1 (z102.2 2 0) z102.2) fun z105 =>
                      some (0, z105.2)
                    else
                      some (0, z102.2)
            else
              j86 z88.2
          else
            j86 z58.2
        else
          j54 z56.2
      else
        j54 z30.2
noncomputable def mEr (k53 : Int → MS → Option (Int × MS)) (fo : Nat) (was : Int) : Int × MS → Option (Int × MS) := fun z11 =>
        bnd (fun (x1_12 : Int) (w13 : Int) (s14 : MS) =>
            m_qSums_L15 k53 fo x1_12 w13 s14) fun j15 =>
        bnd (fun (x1_16 : Int) (s17 : MS) =>
            j15 x1_16 0 s17) fun j18 =>
        if i32 (z11.2 5 0) = 0 then
          Option.bind (m_qGoesOn z11.2) fun z20 =>
          if i32 z20.1 = 0 then
            j18 was z20.2
          else
            j15 was 1 z20.2
        else
          j18 was z11.2
theorem st_bind {β α : Type} {a : Option β} {z : β} {f : β → Option α} {x : Option α} (e : a = some z) (h : f z = x) : Option.bind a f = x := by rw [e]; exact h
theorem st_bnd {β α : Type} {e : β} {f : β → Option α} {x : Option α} (h : f e = x) : bnd e f = x := h
theorem st_t {α : Type} {c : Prop} [Decidable c] {a b x : α} (hc : c) (h : a = x) : (if c then a else b) = x := by rw [if_pos hc]; exact h
theorem st_f {α : Type} {c : Prop} [Decidable c] {a b x : α} (hc : ¬ c) (h : b = x) : (if c then a else b) = x := by rw [if_neg hc]; exact h
theorem st_gd {α : Type} {c : Prop} [Decidable c] {a x : Option α} (hc : c) (h : a = x) : gd c a = x := by rw [gd_t hc]; exact h
theorem n10 : ¬ i32 1 = 0 := by decide
theorem n1m {v : Int} (h : 0 ≤ v ∧ v < 10000) : ¬ i32 v = i32 (-1) := by rw [i32_id (by omega) (by omega), i32_id (by omega) (by omega)]; omega
theorem ne32 {v w : Int} (h : -10000 ≤ v ∧ v < 10000) (h2 : -10000 ≤ w ∧ w < 10000) (h3 : v ≠ w) : ¬ i32 v = i32 w := by rw [i32_id (by omega) (by omega), i32_id (by omega) (by omega)]; exact h3
/-- ahead of a part; behind a part -/
noncomputable def mEf (k : Int → MS → Option (Int × MS)) (was : Int) (fi fo : Nat) (s : MS) : Option (Int × MS) := Option.bind (m_qPartTold_L2 KPt fi 1 s) (mEr k fo was)
noncomputable def mAf (k : Int → MS → Option (Int × MS)) (was : Int) (fl fo : Nat) (s : MS) : Option (Int × MS) := Option.bind (m_qGoesOn_L0 KGo fl s) (fun z20 => if i32 z20.1 = 0 then m_qSums_L15 k fo was 0 z20.2 else m_qSums_L15 k fo was 1 z20.2)
theorem m_qPartTold_eq (s : MS) : m_qPartTold s = m_qPartTold_L2 KPt FU 1 s := rfl
theorem m_qGoesOn_eq (s : MS) : m_qGoesOn s = m_qGoesOn_L0 KGo FU s := rfl
def mBq (k pl : Int) (s s' : MS) : Prop := only pks s s' ∧ s' 5 0 = k ∧ s' 6 0 = pl ∧ 0 ≤ s' 97 0 ∧ s' 97 0 < 1695
theorem mB.q {k pl : Int} {s0 s s' : MS} (h0 : only pks s0 s) (h97 : 0 ≤ s 97 0 ∧ s 97 0 < 1695) (h : mB k pl s s') : mBq k pl s0 s' := ⟨h0.tr (h.1.mono (by decide)), h.2.1, h.2.2, by rw [h.1 97 (by decide)]; exact h97⟩
theorem mQ.c97 {T : Int → Int} {n p tk b o : Int} {s : MS} {C W : List Int} (h : mQ T n tk s p C W b o) (hl : C.length < 1690) : 0 ≤ s 97 0 ∧ s 97 0 < 1695 := by have := h.2.1.1.1; omega
section
variable {T : Int → Int} {n p tk b o : Int} {s s' : MS} {C W : List Int} {k : Int → MS → Option (Int × MS)} {was : Int} {fi fo fl : Nat}
theorem L15_go (h5 : s 5 0 = 0) : m_qSums_L15 k (fo + 1) was 1 s = mEf k was FU fo s := by
  rw [m_qSums_L15, if_neg (by rw [i32_id (by omega) (by omega)]; omega), h5, if_pos i32_0, m_qPartTold_eq]
  rfl
theorem L15_0 : m_qSums_L15 k (fo + 1) was 0 s = k was s := by rw [m_qSums_L15, if_pos i32_0]
theorem mEr_ok {v : Int} (h5 : s 5 0 = 0) : mEr k fo was (v, s) = mAf k was FU fo s := by
  unfold mEr
  simp only [bnd_r]
  rw [h5, if_pos i32_0, m_qGoesOn_eq]
  rfl
theorem mEr_bad {v kd : Int} (h5 : s 5 0 = kd) (hk : 1 ≤ kd ∧ kd ≤ 5) : mEr k (fo + 1) was (v, s) = k was s := by
  unfold mEr
  simp only [bnd_r]
  rw [h5, if_neg (by rw [i32_id (by omega) (by omega)]; omega), L15_0]
theorem E_bad {kd : Int} (h5 : s 5 0 = kd) (hk : 1 ≤ kd ∧ kd ≤ 5) : mEf k was (fi + 1) (fo + 1) s = k was s := by
  unfold mEf
  have e : m_qPartTold_L2 KPt (fi + 1) 1 s = some (0, s) := by
    rw [m_qPartTold_L2]
    unfold KPt
    simp (disch := omega) only [gd_t, gd_T, gd_ok, not_false_eq_true, eq_self, bnd_r, bind_s, ite_t, ite_n, ite_T, ite_F, i32_id, h5]
  rw [e, bind_s, mEr_bad h5 hk]
theorem wIx_wo {tk : Int} {w : List Int} (h : 0 ≤ wIx tk w) : w = wo (85 + (wIx tk w).toNat) := by
  unfold wIx at *
  split
  · assumption
  · split
    · assumption
    · split
      · assumption
      · split
        · rename_i c; exact c.2
        · split
          · assumption
          · split
            · assumption
            · split
              · assumption
              · split
                · assumption
                · split
                  · assumption
                  · split
                    · assumption
                    · split
                      · assumption
                      · rename_i c1 c2 c3 c4 c5 c6 c7 c8 c9 c10 c11
                        rw [if_neg c1, if_neg c2, if_neg c3, if_neg c4, if_neg c5, if_neg c6, if_neg c7, if_neg c8, if_neg c9, if_neg c10, if_neg c11] at h
                        omega
/-- what a word means in a sum: a part 0..8, given or well of a number 9, 10, min 11, max 12, none -1 -/
def wc (tk : Int) (w : List Int) : Int := if w = wo 83 then 11 else if w = wo 84 then 12 else if 0 ≤ wIx tk w ∧ (if tk = 0 then wIx tk w < 5 else wIx tk w = 0 ∨ 3 < wIx tk w) then wIx tk w else -1
/-- what stands here: -1 also if no word can stand -/
def wcA (tk : Int) (T : Int → Int) (n q : Int) : Int := if qL (bA T n q) = true ∧ pd T n q = false then wc tk (wrd T n q) else -1
theorem wcA_at {tk q : Int} (h : wcA tk T n q ≠ -1) : (qL (bA T n q) = true ∧ pd T n q = false) ∧ wcA tk T n q = wc tk (wrd T n q) := by
  unfold wcA at *
  by_cases c : qL (bA T n q) = true ∧ pd T n q = false
  · rw [if_pos c]; exact ⟨c, rfl⟩
  · rw [if_neg c] at h; exact absurd rfl h
theorem wc_b (tk : Int) (w : List Int) : -1 ≤ wc tk w ∧ wc tk w ≤ 12 := by
  have := wIx_b tk w
  unfold wc
  split
  · omega
  · split
    · omega
    · split <;> omega
theorem wcA_b (tk : Int) (T : Int → Int) (n q : Int) : -1 ≤ wcA tk T n q ∧ wcA tk T n q ≤ 12 := by
  unfold wcA
  split
  · exact wc_b _ _
  · omega
/-- the words of a question that take a part -/
theorem of_ev (h : mG T n s p) (hp : rn qB T n p = p) (ht : s 47 0 = tk) (htk : tk = 0 ∨ tk = 1) : m_qWordOf 9 11 s = some (if 9 ≤ wcA tk T n p ∧ wcA tk T n p < 11 then wcA tk T n p else -1, s) := by
  unfold wcA
  by_cases c : qL (bA T n p) = true ∧ pd T n p = false
  · rw [if_pos c]
    have hb := wIx_b tk (wrd T n p)
    have e := qWordOf_ev (lo := 9) (hi := 11) (qWordHere_ev h hp c.1 c.2 ht htk) hb (by omega) (by omega) ht htk
    rw [e]
    unfold wc
    by_cases c1 : wrd T n p = wo 83
    · have e83 : wIx tk (wo 83) = -1 := by rcases htk with rfl | rfl <;> decide
      rw [if_pos c1, c1, e83, if_neg (by omega), if_neg (by omega)]
    · rw [if_neg c1]
      by_cases c2 : wrd T n p = wo 84
      · have e84 : wIx tk (wo 84) = -1 := by rcases htk with rfl | rfl <;> decide
        rw [if_pos c2, c2, e84, if_neg (by omega), if_neg (by omega)]
      · rw [if_neg c2]
        by_cases c3 : 0 ≤ wIx tk (wrd T n p) ∧ (if tk = 0 then wIx tk (wrd T n p) < 5 else wIx tk (wrd T n p) = 0 ∨ 3 < wIx tk (wrd T n p))
        · rw [if_pos c3]
          by_cases c4 : 9 ≤ wIx tk (wrd T n p) ∧ wIx tk (wrd T n p) < 11
          · rw [if_pos c4, if_pos ⟨c4.1, c4.2, c3.2⟩]
          · rw [if_neg c4, if_neg (fun h => c4 ⟨h.1, h.2.1⟩)]
        · rw [if_neg c3, if_neg (fun h => c3 ⟨by omega, h.2.2⟩), if_neg (by omega)]
  · rw [if_neg c, if_neg (by omega)]
    have e := qWordOf_ev (lo := 9) (hi := 11) (k := -1) (qWordHere_no h hp c) (by omega) (by omega) (by omega) ht htk
    rw [e, if_neg (by omega)]
theorem part_ev (h : mG T n s p) (hp : rn qB T n p = p) (ht : s 47 0 = tk) (htk : tk = 0 ∨ tk = 1) : m_qWordOf 0 9 s = some (if 0 ≤ wcA tk T n p ∧ wcA tk T n p < 9 then wcA tk T n p else -1, s) := by
  unfold wcA
  by_cases c : qL (bA T n p) = true ∧ pd T n p = false
  · rw [if_pos c]
    have hb := wIx_b tk (wrd T n p)
    have e := qWordOf_ev (lo := 0) (hi := 9) (qWordHere_ev h hp c.1 c.2 ht htk) hb (by omega) (by omega) ht htk
    rw [e]
    unfold wc
    by_cases c1 : wrd T n p = wo 83
    · have e83 : wIx tk (wo 83) = -1 := by rcases htk with rfl | rfl <;> decide
      rw [if_pos c1, c1, e83, if_neg (by omega), if_neg (by omega)]
    · rw [if_neg c1]
      by_cases c2 : wrd T n p = wo 84
      · have e84 : wIx tk (wo 84) = -1 := by rcases htk with rfl | rfl <;> decide
        rw [if_pos c2, c2, e84, if_neg (by omega), if_neg (by omega)]
      · rw [if_neg c2]
        by_cases c3 : 0 ≤ wIx tk (wrd T n p) ∧ (if tk = 0 then wIx tk (wrd T n p) < 5 else wIx tk (wrd T n p) = 0 ∨ 3 < wIx tk (wrd T n p))
        · rw [if_pos c3]
          by_cases c4 : 0 ≤ wIx tk (wrd T n p) ∧ wIx tk (wrd T n p) < 9
          · rw [if_pos c4, if_pos ⟨c4.1, c4.2, c3.2⟩]
          · rw [if_neg c4, if_neg (fun h => c4 ⟨h.1, h.2.1⟩)]
        · rw [if_neg c3, if_neg (fun h => c3 ⟨by omega, h.2.2⟩), if_neg (by omega)]
  · rw [if_neg c, if_neg (by omega)]
    have e := qWordOf_ev (lo := 0) (hi := 9) (k := -1) (qWordHere_no h hp c) (by omega) (by omega) (by omega) ht htk
    rw [e, if_neg (by omega)]
theorem min_ev (h : mG T n s p) (hp : rn qB T n p = p) : m_isHere 83 s = some (b2i (decide (wcA tk T n p = 11)), s) ∧ m_isHere 84 s = some (b2i (decide (wcA tk T n p = 12)), s) := by
  rw [m_isHere_id h hp (a := 83) (by decide), m_isHere_id h hp (a := 84) (by decide)]
  unfold wcA
  by_cases c : qL (bA T n p) = true ∧ pd T n p = false
  · rw [if_pos c]
    have hb := wIx_b tk (wrd T n p)
    unfold wc hereW
    rw [c.1, c.2]
    by_cases c1 : wrd T n p = wo 83
    · rw [if_pos c1, c1]
      constructor <;> rfl
    · rw [if_neg c1]
      by_cases c2 : wrd T n p = wo 84
      · rw [if_pos c2, c2]
        constructor <;> rfl
      · rw [if_neg c2, decide_eq_false c1, decide_eq_false c2]
        constructor
        · rw [decide_eq_false (by split <;> omega)]; rfl
        · rw [decide_eq_false (by split <;> omega)]; rfl
  · rw [if_neg c]
    have : ∀ w, hereW T n p w = false := fun w => by
      unfold hereW
      cases c1 : qL (bA T n p) with
      | false => rfl
      | true =>
        cases c2 : pd T n p with
        | true => rfl
        | false => exact absurd ⟨c1, c2⟩ c
    rw [this, this]
    constructor <;> rfl
theorem mQ.sk' (h : mQ T n tk s p C W b o) : ∃ s', m_look s = some (bA T n (rn qB T n p), s') ∧ only [2] s s' ∧ mQ T n tk s' (rn qB T n p) C W b o := by
  obtain ⟨s1, e1, e2, e3⟩ := m_look_ev h.1
  exact ⟨s1, e1, e2, h.at2 e2 e3⟩
theorem wcA_40 {q : Int} (h : qL (bA T n q) = false) : wcA tk T n q = -1 := by unfold wcA; rw [if_neg (by rw [h]; simp)]
theorem asks_bad {a : Nat} {kd : Int} (h5 : s 5 0 = kd) (hk : 1 ≤ kd ∧ kd ≤ 5) : m_asks a s = some (0, s) := by
  unfold m_asks
  simp (disch := omega) only [gd_t, gd_T, gd_ok, not_false_eq_true, eq_self, bnd_r, bind_s, ite_t, ite_n, ite_T, ite_F, i32_id, h5]
theorem asksSign_bad {c : Int} {kd : Int} (h5 : s 5 0 = kd) (hk : 1 ≤ kd ∧ kd ≤ 5) : m_asksSign c s = some (0, s) := by
  unfold m_asksSign
  simp (disch := omega) only [gd_t, gd_T, gd_ok, not_false_eq_true, eq_self, bnd_r, bind_s, ite_t, ite_n, ite_T, ite_F, i32_id, h5]
theorem qAsksWord_bad {c : Int} {kd : Int} (h5 : s 5 0 = kd) (hk : 1 ≤ kd ∧ kd ≤ 5) : m_qAsksWord c s = some (0, s) := by
  unfold m_qAsksWord
  simp only [asks_bad h5 hk, bind_s, ite_self]
theorem wcA_L {q : Int} (h : wcA tk T n q ≠ -1) : bA T n q ≠ 40 := by
  have := (wcA_at h).1.1
  rw [qL_t] at this
  omega
theorem wcA_11 {q : Int} (h : wcA tk T n q = 11 ∨ wcA tk T n q = 12) : hereW T n q (wo 83) = decide (wcA tk T n q = 11) ∧ hereW T n q (wo 84) = decide (wcA tk T n q = 12) := by
  obtain ⟨c, e⟩ := wcA_at (tk := tk) (T := T) (n := n) (q := q) (by omega)
  have hb := wIx_b tk (wrd T n q)
  rw [e] at h ⊢
  unfold wc at *
  unfold hereW
  rw [c.1, c.2]
  by_cases c1 : wrd T n q = wo 83
  · rw [if_pos c1, c1]; exact ⟨rfl, rfl⟩
  · rw [if_neg c1] at h ⊢
    by_cases c2 : wrd T n q = wo 84
    · rw [if_pos c2, c2]; exact ⟨rfl, rfl⟩
    · rw [if_neg c2] at h
      split at h <;> omega
theorem sgn40 : sgn 40 := by unfold sgn; decide
end
