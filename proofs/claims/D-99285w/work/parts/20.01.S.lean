set_option maxRecDepth 100000
/-! LAYER 2: the plain law's own notions -/
/-- of the sayings' places: how far -/
def stp (cl rw : Int → Int) (x y s : Int) : Int := ((cl s - x).natAbs : Int) + ((rw s - y).natAbs : Int)
def lenF (cl rw : Int → Int) : Int → Int → List Int → Int
  | _, _, [] => 0
  | x, y, s :: l => stp cl rw x y s + lenF cl rw (cl s) (rw s) l
def perms : Nat → List Int → List (List Int)
  | 0, _ => [[]]
  | k + 1, rem => rem.flatMap fun o => (perms k (rem.filter fun q => q != o)).map (o :: ·)
def rng (n : Nat) : List Int := (List.range n).map fun (k : Nat) => (k : Int)
def better (f : List Int → Int) (b : Option (List Int)) (l : List Int) : Option (List Int) := match b with
  | none => some l
  | some l0 => if f l < f l0 then some l else some l0
theorem better_some (f : List Int → Int) (l0 l : List Int) : better f (some l0) l = if f l < f l0 then some l else some l0 := rfl
/-- the next order -/
def fK (l : List Int) : Nat → Int → Int
  | 0, k => k
  | f + 1, k => if k < 0 then k else if l.getD k.toNat 0 ≤ l.getD (k + 1).toNat 0 then k else fK l f (k - 1)
def fJ (l : List Int) (a : Int) : Nat → Int → Int
  | 0, j => j
  | f + 1, j => if a ≤ l.getD j.toNat 0 then j else fJ l a f (j - 1)
def rv : Nat → Int → Int → List Int → List Int
  | 0, _, _, l => l
  | f + 1, a, b, l => if b ≤ a then l else rv f (a + 1) (b - 1) ((l.set a.toNat (l.getD b.toNat 0)).set b.toNat (l.getD a.toNat 0))
def swp (l : List Int) (k j : Int) : List Int := (l.set k.toNat (l.getD j.toNat 0)).set j.toNat (l.getD k.toNat 0)
def nextL (n : Nat) (l : List Int) : Option (List Int) :=
  let k := fK l 8 ((n : Int) - 2)
  if 0 ≤ k then
    let j := fJ l (l.getD k.toNat 0) 8 ((n : Int) - 1)
    some (rv 8 (k + 1) ((n : Int) - 1) (swp l k j))
  else none
def chain (n : Nat) : List (List Int) → Bool
  | [] => false
  | [l] => nextL n l == none
  | l :: l' :: r => nextL n l == some l' && chain n (l' :: r)
def okL (n : Nat) (l : List Int) : Bool := (l.length == n && l.all fun x => decide (0 ≤ x) && decide (x < n)) && (rng n).all fun x => l.contains x
theorem perms_chain : ∀ n, n ≤ 6 → chain n (perms n (rng n)) = true ∧ (perms n (rng n)).head? = some (rng n) ∧ (perms n (rng n)).all (okL n) = true := by decide +kernel
theorem okL_at {n : Nat} {l : List Int} (h : okL n l = true) : l.length = n ∧ ∀ x ∈ l, 0 ≤ x ∧ x < n := by
  simp only [okL, Bool.and_eq_true, beq_iff_eq, List.all_eq_true, decide_eq_true_eq] at h
  exact h.1
theorem okL_mem {n : Nat} {l : List Int} (h : okL n l = true) {x : Int} (hx : x ∈ rng n) : x ∈ l := by
  simp only [okL, Bool.and_eq_true, List.all_eq_true] at h
  have := h.2 x hx
  simpa using this
theorem okL_get {n : Nat} {l : List Int} (h : okL n l = true) {i : Int} (h0 : 0 ≤ i) (h1 : i < n) : 0 ≤ l.getD i.toNat 0 ∧ l.getD i.toNat 0 < n := by
  obtain ⟨h2, h3⟩ := okL_at h
  have : i.toNat < l.length := by omega
  rw [List.getD_eq_getElem?_getD, List.getElem?_eq_getElem this]
  exact h3 _ (List.getElem_mem this)
