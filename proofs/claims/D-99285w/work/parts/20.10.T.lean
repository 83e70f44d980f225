set_option maxRecDepth 100000
/-! LAYER 2: the tape's words, plainly -/
def bA (T : Int → Int) (n p : Int) : Int := if 0 ≤ p ∧ p < n then T p else -1
def tpOk (T : Int → Int) (n : Int) : Prop := (0 ≤ n ∧ n ≤ 1600) ∧ ∀ k : Int, 0 ≤ k → k < 1600 → 0 ≤ T k ∧ T k < 256
theorem bA_in {T : Int → Int} {n p : Int} (h : 0 ≤ p) (h2 : p < n) : bA T n p = T p := if_pos ⟨h, h2⟩
theorem bA_out {T : Int → Int} {n p : Int} (h : ¬ (0 ≤ p ∧ p < n)) : bA T n p = -1 := if_neg h
theorem bA_b {T : Int → Int} {n : Int} (ht : tpOk T n) (p : Int) : -1 ≤ bA T n p ∧ bA T n p < 256 := by
  unfold bA
  split
  · rename_i h
    have := ht.2 p h.1 (by have := ht.1.2; omega)
    omega
  · omega
theorem bA_at {T : Int → Int} {n p : Int} (h : bA T n p ≠ -1) : 0 ≤ p ∧ p < n := by
  by_cases c : 0 ≤ p ∧ p < n
  · exact c
  · exact absurd (bA_out c) h
/-- the end of a run of signs of a kind -/
def runF (q : Int → Bool) (T : Int → Int) (n : Int) : Nat → Int → Int
  | 0, p => p
  | f + 1, p => if q (bA T n p) = true then runF q T n f (p + 1) else p
def qB (c : Int) : Bool := decide (c = 32) || decide (c = 10)
def qL (c : Int) : Bool := decide (97 ≤ c) && decide (c ≤ 122)
def qD (c : Int) : Bool := decide (48 ≤ c) && decide (c ≤ 57)
theorem qB_t {c : Int} : qB c = true ↔ c = 32 ∨ c = 10 := by simp [qB]
theorem qL_t {c : Int} : qL c = true ↔ 97 ≤ c ∧ c ≤ 122 := by simp [qL]
theorem qD_t {c : Int} : qD c = true ↔ 48 ≤ c ∧ c ≤ 57 := by simp [qD]
theorem qB_f {c : Int} : qB c = false ↔ ¬ (c = 32 ∨ c = 10) := by rw [← qB_t]; simp
theorem qL_f {c : Int} : qL c = false ↔ ¬ (97 ≤ c ∧ c ≤ 122) := by rw [← qL_t]; simp
theorem qD_f {c : Int} : qD c = false ↔ ¬ (48 ≤ c ∧ c ≤ 57) := by rw [← qD_t]; simp
def rn (q : Int → Bool) (T : Int → Int) (n p : Int) : Int := runF q T n (n - p).toNat p
section Run
variable {q : Int → Bool} {T : Int → Int} {n : Int} (hq : q (-1) = false)
theorem runF_le : ∀ (f : Nat) (p : Int), p ≤ runF q T n f p
  | 0, p => Int.le_refl _
  | f + 1, p => by
    rw [runF]
    split
    · have := runF_le f (p + 1); omega
    · exact Int.le_refl _
theorem runF_hi (hq : q (-1) = false) : ∀ (f : Nat) (p : Int), p ≤ n → runF q T n f p ≤ n
  | 0, p, h => h
  | f + 1, p, h => by
    rw [runF]
    split
    · rename_i c
      have : bA T n p ≠ -1 := fun e => by rw [e, hq] at c; cases c
      have := bA_at this
      exact runF_hi hq f (p + 1) (by omega)
    · exact h
theorem runF_in : ∀ (f : Nat) (p k : Int), p ≤ k → k < runF q T n f p → q (bA T n k) = true
  | 0, p, k, h, h2 => by rw [runF] at h2; omega
  | f + 1, p, k, h, h2 => by
    rw [runF] at h2
    split at h2
    · rename_i c
      by_cases e : k = p
      · rw [e]; exact c
      · exact runF_in f (p + 1) k (by omega) h2
    · omega
theorem runF_end (hq : q (-1) = false) : ∀ (f : Nat) (p : Int), (n - p).toNat ≤ f → q (bA T n (runF q T n f p)) = false
  | 0, p, h => by rw [runF, bA_out (by omega)]; exact hq
  | f + 1, p, h => by
    rw [runF]
    split
    · rename_i c
      have : bA T n p ≠ -1 := fun e => by rw [e, hq] at c; cases c
      have := bA_at this
      exact runF_end hq f (p + 1) (by omega)
    · rename_i c
      cases h : q (bA T n p) with
      | true => exact absurd h c
      | false => rfl
theorem rn_le (p : Int) : p ≤ rn q T n p := runF_le _ _
theorem rn_hi (hq : q (-1) = false) {p : Int} (h : p ≤ n) : rn q T n p ≤ n := runF_hi hq _ _ h
theorem rn_in {p k : Int} (h : p ≤ k) (h2 : k < rn q T n p) : q (bA T n k) = true := runF_in _ _ _ h h2
theorem rn_end (hq : q (-1) = false) (p : Int) : q (bA T n (rn q T n p)) = false := runF_end hq _ _ (Nat.le_refl _)
theorem rn_step (hq : q (-1) = false) {p : Int} (h : q (bA T n p) = true) : rn q T n p = rn q T n (p + 1) := by
  have : bA T n p ≠ -1 := fun e => by rw [e, hq] at h; cases h
  have := bA_at this
  unfold rn
  rw [show (n - p).toNat = (n - (p + 1)).toNat + 1 by omega, runF, if_pos h]
theorem rn_stop {p : Int} (h : q (bA T n p) = false) : rn q T n p = p := by
  unfold rn
  cases (n - p).toNat with
  | zero => rfl
  | succ f => rw [runF, if_neg (by rw [h]; simp)]
theorem rn_lt {p : Int} (hq : q (-1) = false) (h : q (bA T n p) = true) : p < rn q T n p := by
  rw [rn_step hq h]
  have := rn_le (q := q) (T := T) (n := n) (p + 1)
  omega
end Run
theorem qB_1 : qB (-1) = false := by decide
theorem qL_1 : qL (-1) = false := by decide
theorem qD_1 : qD (-1) = false := by decide
/-- behind blanks -/
abbrev sk (T : Int → Int) (n p : Int) : Int := rn qB T n p
theorem sk_sk (T : Int → Int) (n p : Int) : rn qB T n (rn qB T n p) = rn qB T n p := rn_stop (rn_end qB_1 p)
/-- a letter or a digit just ahead -/
def pd (T : Int → Int) (n p : Int) : Bool := qL (bA T n (p - 1)) || qD (bA T n (p - 1))
theorem pd_sk {T : Int → Int} {n p : Int} (h : p < rn qB T n p) : pd T n (rn qB T n p) = false := by
  have h1 := rn_in (q := qB) (T := T) (n := n) (p := p) (k := rn qB T n p - 1) (by omega) (by omega)
  rw [qB_t] at h1
  unfold pd
  rcases h1 with h1 | h1 <;> rw [h1] <;> rfl
/-- the signs from p to q -/
def wdl (T : Int → Int) (p q : Int) : List Int := (List.range (q - p).toNat).map fun (i : Nat) => T (p + i)
theorem wdl_len (T : Int → Int) (p q : Int) : (wdl T p q).length = (q - p).toNat := by simp [wdl]
theorem wdl_get {T : Int → Int} {p q : Int} {i : Nat} (h : i < (q - p).toNat) : (wdl T p q)[i]? = some (T (p + i)) := by
  unfold wdl
  rw [List.getElem?_map, List.getElem?_range h]
  rfl
theorem wdl_snoc {T : Int → Int} {p q : Int} (h : p ≤ q) : wdl T p (q + 1) = wdl T p q ++ [T q] := by
  unfold wdl
  rw [show (q + 1 - p).toNat = (q - p).toNat + 1 by omega, List.range_succ, List.map_append]
  simp only [List.map_cons, List.map_nil]
  congr 2
  congr 1
  omega
theorem wdl_nil (T : Int → Int) (p : Int) : wdl T p p = [] := by simp [wdl]
/-- a word -/
def wrd (T : Int → Int) (n p : Int) : List Int := wdl T p (rn qL T n p)
/-- whether the word w stands here -/
def hereW (T : Int → Int) (n p : Int) (w : List Int) : Bool := qL (bA T n p) && !pd T n p && decide (wrd T n p = w)
/-- a number by its digits -/
def nVl (l : List Int) : Int := l.foldl (fun a c => 10 * a + c - 48) 0
theorem nVl_snoc (l : List Int) (c : Int) : nVl (l ++ [c]) = 10 * nVl l + c - 48 := by simp [nVl]
/-- a number is read: (0, its value, its end); (kind of fault, its place, 0) -/
def tkN (T : Int → Int) (n p lo hi : Int) : Int × Int × Int :=
  if qD (bA T n (rn qB T n p)) = true ∧ pd T n (rn qB T n p) = false then
    if rn qD T n (rn qB T n p) - rn qB T n p ≤ 4 then
      if lo ≤ nVl (wdl T (rn qB T n p) (rn qD T n (rn qB T n p))) ∧ nVl (wdl T (rn qB T n p) (rn qD T n (rn qB T n p))) ≤ hi then (0, nVl (wdl T (rn qB T n p) (rn qD T n (rn qB T n p))), rn qD T n (rn qB T n p))
      else (2, rn qB T n p, 0)
    else (1, rn qB T n p + 4, 0)
  else (1, rn qB T n p, 0)
/-- the words that are the language's own -/
def ownW : List (List Int) := [[100, 117, 115, 107], [115, 97, 121, 105, 110, 103], [97, 116], [116, 111, 110, 101], [118, 101, 114, 98], [107, 105, 110, 100], [109, 105, 108, 100], [108, 101, 110, 116], [116, 97, 107, 101, 115], [119, 101, 108, 108], [116, 117, 114, 110, 115], [100, 105, 116, 99, 104], [103, 105, 118, 101, 110], [100, 97, 121], [110, 117, 109, 98, 101, 114], [99, 111, 108, 117, 109, 110], [114, 111, 119], [103, 101, 116, 115], [111, 114], [97, 110, 100], [110, 111, 116], [97, 108, 108], [109, 105, 110], [109, 97, 120]]
/-- a name is read: (0, where it begins, its end); (kind of fault, its place, 0) -/
def tkM (T : Int → Int) (n p : Int) : Int × Int × Int :=
  if qL (bA T n (rn qB T n p)) = true ∧ pd T n (rn qB T n p) = false then
    if wrd T n (rn qB T n p) ∈ ownW then (1, rn qB T n p, 0)
    else if rn qL T n (rn qB T n p) - rn qB T n p ≤ 6 then (0, rn qB T n p, rn qL T n (rn qB T n p))
    else (1, rn qB T n p + 6, 0)
  else (1, rn qB T n p, 0)
/-- a name as a number -/
def nmV (l : List Int) : Int := l.foldl (fun a c => 27 * a + c - 97 + 1) 0
theorem nmV_snoc (l : List Int) (c : Int) : nmV (l ++ [c]) = 27 * nmV l + c - 97 + 1 := by simp [nmV]
theorem nVl_b : ∀ (k : Nat) (l : List Int), l.length = k → (∀ c ∈ l, 48 ≤ c ∧ c ≤ 57) → 0 ≤ nVl l ∧ nVl l < 10 ^ k := by
  intro k
  induction k with
  | zero => intro l h _; rw [List.length_eq_zero_iff.mp h]; decide
  | succ k ih =>
    intro l h hl
    have hne : l ≠ [] := fun e => by rw [e] at h; cases h
    have e := (List.dropLast_concat_getLast hne).symm
    rw [e] at hl ⊢
    have h1 := ih l.dropLast (by rw [List.length_dropLast, h]; rfl) (fun c hc => hl c (List.mem_append_left _ hc))
    have h2 := hl (l.getLast hne) (List.mem_append_right _ (List.mem_singleton.mpr rfl))
    rw [nVl_snoc, Int.pow_succ]
    omega
theorem nmV_b : ∀ (k : Nat) (l : List Int), l.length = k → (∀ c ∈ l, 97 ≤ c ∧ c ≤ 122) → 0 ≤ nmV l ∧ nmV l < 27 ^ k := by
  intro k
  induction k with
  | zero => intro l h _; rw [List.length_eq_zero_iff.mp h]; decide
  | succ k ih =>
    intro l h hl
    have hne : l ≠ [] := fun e => by rw [e] at h; cases h
    have e := (List.dropLast_concat_getLast hne).symm
    rw [e] at hl ⊢
    have h1 := ih l.dropLast (by rw [List.length_dropLast, h]; rfl) (fun c hc => hl c (List.mem_append_left _ hc))
    have h2 := hl (l.getLast hne) (List.mem_append_right _ (List.mem_singleton.mpr rfl))
    rw [nmV_snoc, Int.pow_succ]
    omega
theorem nmV_inj : ∀ (l r : List Int), (∀ c ∈ l, 97 ≤ c ∧ c ≤ 122) → (∀ c ∈ r, 97 ≤ c ∧ c ≤ 122) → nmV l = nmV r → l = r := by
  have key : ∀ (k : Nat) (l r : List Int), l.length = k → (∀ c ∈ l, 97 ≤ c ∧ c ≤ 122) → (∀ c ∈ r, 97 ≤ c ∧ c ≤ 122) → nmV l = nmV r → l = r := by
    intro k
    induction k with
    | zero =>
      intro l r h hl hr e
      have hl0 := List.length_eq_zero_iff.mp h
      subst hl0
      by_cases hne : r = []
      · exact hne.symm
      · have e2 := (List.dropLast_concat_getLast hne).symm
        rw [e2] at hr e
        have h1 := nmV_b _ r.dropLast rfl (fun c hc => hr c (List.mem_append_left _ hc))
        have h2 := hr (r.getLast hne) (List.mem_append_right _ (List.mem_singleton.mpr rfl))
        rw [nmV_snoc] at e
        simp [nmV] at e h1
        omega
    | succ k ih =>
      intro l r h hl hr e
      have hne : l ≠ [] := fun e => by rw [e] at h; cases h
      have e1 := (List.dropLast_concat_getLast hne).symm
      rw [e1] at hl e
      have h1 := nmV_b _ l.dropLast rfl (fun c hc => hl c (List.mem_append_left _ hc))
      have h2 := hl (l.getLast hne) (List.mem_append_right _ (List.mem_singleton.mpr rfl))
      by_cases hne2 : r = []
      · subst hne2
        rw [nmV_snoc] at e
        simp [nmV] at e h1
        omega
      · have e2 := (List.dropLast_concat_getLast hne2).symm
        rw [e2] at hr e
        have h3 := nmV_b _ r.dropLast rfl (fun c hc => hr c (List.mem_append_left _ hc))
        have h4 := hr (r.getLast hne2) (List.mem_append_right _ (List.mem_singleton.mpr rfl))
        rw [nmV_snoc, nmV_snoc] at e
        have e3 : l.getLast hne = r.getLast hne2 := by omega
        have e4 := ih l.dropLast r.dropLast (by rw [List.length_dropLast, h]; rfl) (fun c hc => hl c (List.mem_append_left _ hc)) (fun c hc => hr c (List.mem_append_left _ hc)) (by omega)
        rw [e1, e2, e3, e4]
  exact fun l r => key l.length l r rfl
/-- the signs of a run are of its kind -/
theorem wdl_mem {q : Int → Bool} {T : Int → Int} {n p : Int} (hq : q (-1) = false) {c : Int} (h : c ∈ wdl T p (rn q T n p)) : q c = true := by
  unfold wdl at h
  obtain ⟨i, hi, rfl⟩ := List.mem_map.mp h
  have hi := List.mem_range.mp hi
  have h1 := rn_in (q := q) (T := T) (n := n) (p := p) (k := p + i) (by omega) (by omega)
  have h2 : bA T n (p + i) ≠ -1 := fun e => by rw [e, hq] at h1; cases h1
  have h3 := bA_at h2
  rw [bA_in h3.1 h3.2] at h1
  exact h1
