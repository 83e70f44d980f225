set_option maxRecDepth 100000
/-! sums and tests as rows of codes: what they tell -/
def clp (v : Int) : Int := if 1000000 < v then 1000000 else if v < -1000000 then -1000000 else v
def flr (a b : Int) : Int := if b = 0 then 0 else if a - Int.tdiv a b * b ≠ 0 ∧ (decide (a < 0) ≠ decide (b < 0)) then Int.tdiv a b - 1 else Int.tdiv a b
def jn (c a b : Int) : Int := if c = 1 then clp (a + b) else if c = 2 then clp (a - b) else if c = 3 then clp (a * b) else if c = 4 then flr a b else if c = 5 then (if a < b then a else b) else if c = 6 then (if b < a then a else b) else if c = 7 then b2i (decide (a < b)) else if c = 8 then b2i (decide (b < a)) else if c = 9 then b2i (decide (a = b)) else if c = 10 then a * b else b2i (decide (0 < a + b))
def stq (pt : Int → Int) (of : Int → Int → Int) (c : Int) (st : List Int) : Option (List Int) :=
  if 1000 ≤ c then some ((c - 1000) :: st)
  else if 60 ≤ c then (match st with | v :: r => some (clp (of (c - 60) v) :: r) | [] => none)
  else if 40 ≤ c then some (pt (c - 40) :: st)
  else if c = 13 then some (1 :: st)
  else if c = 12 then (match st with | v :: r => some ((1 - v) :: r) | [] => none)
  else (match st with | b :: a :: r => some (jn c a b :: r) | _ => none)
def exq (pt : Int → Int) (of : Int → Int → Int) : List Int → List Int → Option (List Int)
  | [], st => some st
  | c :: cs, st => (stq pt of c st).bind (exq pt of cs)
theorem exq_app (pt : Int → Int) (of : Int → Int → Int) : ∀ (cs ds st : List Int), exq pt of (cs ++ ds) st = (exq pt of cs st).bind (exq pt of ds)
  | [], ds, st => rfl
  | c :: cs, ds, st => by
    rw [List.cons_append, exq, exq]
    cases h : stq pt of c st with
    | none => rfl
    | some st' => simp only [Option.bind_some]; exact exq_app pt of cs ds st'
def isV (pt : Int → Int) (of : Int → Int → Int) (cs : List Int) (v : Int) : Prop := ∀ st, exq pt of cs st = some (v :: st)
theorem isV_inj {pt : Int → Int} {of : Int → Int → Int} {cs : List Int} {v w : Int} (h : isV pt of cs v) (h2 : isV pt of cs w) : v = w := by
  have := (h []).symm.trans (h2 [])
  simpa using this
theorem isV_num {pt : Int → Int} {of : Int → Int → Int} {k : Int} (h : 0 ≤ k) : isV pt of [1000 + k] k := fun st => by
  simp only [exq, stq, Option.bind]
  rw [if_pos (by omega)]
  simp only [Option.bind]
  congr 2
  omega
theorem isV_part {pt : Int → Int} {of : Int → Int → Int} {k : Int} (h : 0 ≤ k) (h2 : k < 9) : isV pt of [40 + k] (pt k) := fun st => by
  simp only [exq, stq, Option.bind]
  rw [if_neg (by omega), if_neg (by omega), if_pos (by omega), show 40 + k - 40 = k by omega]
theorem isV_all {pt : Int → Int} {of : Int → Int → Int} : isV pt of [13] 1 := fun st => by
  simp [exq, stq, Option.bind]
theorem isV_of {pt : Int → Int} {of : Int → Int → Int} {cs : List Int} {v k : Int} (h : isV pt of cs v) (h0 : 0 ≤ k) (h2 : k < 2) : isV pt of (cs ++ [60 + k]) (clp (of k v)) := fun st => by
  rw [exq_app, h st]
  simp only [exq, stq, Option.bind]
  rw [if_neg (by omega), if_pos (by omega), show 60 + k - 60 = k by omega]
theorem isV_not {pt : Int → Int} {of : Int → Int → Int} {cs : List Int} {v : Int} (h : isV pt of cs v) : isV pt of (cs ++ [12]) (1 - v) := fun st => by
  rw [exq_app, h st]
  simp [exq, stq, Option.bind]
theorem isV_jn {pt : Int → Int} {of : Int → Int → Int} {cs ds : List Int} {a b c : Int} (h : isV pt of cs a) (h2 : isV pt of ds b) (hc : 1 ≤ c) (hc2 : c ≤ 11) : isV pt of (cs ++ ds ++ [c]) (jn c a b) := fun st => by
  rw [exq_app, exq_app, h st]
  simp only [Option.bind]
  rw [h2]
  simp only [exq, stq, Option.bind]
  rw [if_neg (by omega), if_neg (by omega), if_neg (by omega), if_neg (by omega), if_neg (by omega)]
theorem clp_b (v : Int) : -1000000 ≤ clp v ∧ clp v ≤ 1000000 := by unfold clp; split <;> (try split) <;> omega
theorem clp_id {v : Int} (h : -1000000 ≤ v) (h2 : v ≤ 1000000) : clp v = v := by unfold clp; rw [if_neg (by omega), if_neg (by omega)]
theorem tdiv_b {a b : Int} (hb : b ≠ 0) : (Int.tdiv a b).natAbs ≤ a.natAbs := by
  rw [Int.natAbs_tdiv]
  exact Nat.div_le_self _ _
theorem flr_b {a b : Int} (ha : -1000000 ≤ a ∧ a ≤ 1000000) : -1000000 ≤ flr a b ∧ flr a b ≤ 1000000 := by
  unfold flr
  by_cases hb : b = 0
  · rw [if_pos hb]; omega
  · rw [if_neg hb]
    have h1 := tdiv_b (a := a) hb
    split
    · rename_i h
      obtain ⟨h2, h3⟩ := h
      have h4 : Int.tdiv a b ≤ 0 ∨ True := Or.inr trivial
      have : ¬ (Int.tdiv a b = -1000000) := by
        intro q
        have q2 : (Int.tdiv a b).natAbs = a.natAbs := by omega
        rw [Int.natAbs_tdiv] at q2
        have hb1 : b.natAbs = 1 := by
          rcases Nat.lt_or_ge 1 b.natAbs with c | c
          · have := Nat.div_lt_self (n := a.natAbs) (by omega) c
            exact absurd q2 (Nat.ne_of_lt this)
          · omega
        rcases (show b = 1 ∨ b = -1 by omega) with rfl | rfl
        · simp at h2
        · simp at h2
      omega
    · omega
theorem jn_1 (a b : Int) : jn 1 a b = clp (a + b) := by simp [jn]
theorem jn_2 (a b : Int) : jn 2 a b = clp (a - b) := by simp [jn]
theorem jn_3 (a b : Int) : jn 3 a b = clp (a * b) := by simp [jn]
theorem jn_4 (a b : Int) : jn 4 a b = flr a b := by simp [jn]
theorem jn_5 (a b : Int) : jn 5 a b = if a < b then a else b := by simp [jn]
theorem jn_6 (a b : Int) : jn 6 a b = if b < a then a else b := by simp [jn]
theorem jn_7 (a b : Int) : jn 7 a b = b2i (decide (a < b)) := by simp [jn]
theorem jn_8 (a b : Int) : jn 8 a b = b2i (decide (b < a)) := by simp [jn]
theorem jn_9 (a b : Int) : jn 9 a b = b2i (decide (a = b)) := by simp [jn]
theorem jn_10 (a b : Int) : jn 10 a b = a * b := by simp [jn]
theorem jn_11 (a b : Int) : jn 11 a b = b2i (decide (0 < a + b)) := by simp [jn]
