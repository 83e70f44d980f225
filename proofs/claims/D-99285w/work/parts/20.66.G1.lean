set_option maxRecDepth 100000
/-! LAYER 2: rows of verbs, one behind the other -/
section
variable (nv : Nat) (cb : List Int → Int → Bool)
def rwF (f : List Int → List (List Int)) (p : List Int) : Nat → List (List Int)
  | 0 => []
  | k + 1 => (if cb p ((nv : Int) - ((k : Int) + 1)) = true then f (p ++ [(nv : Int) - ((k : Int) + 1)]) else []) ++ rwF f p k
/-- all full rows that begin with p, r places more -/
def rws : Nat → List Int → List (List Int)
  | 0, p => [p]
  | r + 1, p => rwF nv cb (rws r) p nv
/-- what comes behind: the last k verbs at the place behind pr (its newest first), then the rest -/
def aft (n : Nat) : List Int → Nat → List (List Int)
  | [], k => rwF nv cb (rws nv cb (n - 1)) [] k
  | u :: pr, k => rwF nv cb (rws nv cb (n - 1 - (pr.length + 1))) ((u :: pr).reverse) k ++ aft n pr ((nv : Int) - 1 - u).toNat
def aftT (n : Nat) : List Int → List (List Int)
  | [] => []
  | u :: pr => aft nv cb n pr ((nv : Int) - 1 - u).toNat
theorem aft_eq (n : Nat) (pr : List Int) (k : Nat) : aft nv cb n pr k = rwF nv cb (rws nv cb (n - 1 - pr.length)) pr.reverse k ++ aftT nv cb n pr := by
  cases pr with
  | nil => simp [aft, aftT]
  | cons u pr => simp [aft, aftT]
theorem aft_skip (n : Nat) (pr : List Int) (k : Nat) (h : cb pr.reverse ((nv : Int) - ((k : Int) + 1)) = false) : aft nv cb n pr (k + 1) = aft nv cb n pr k := by
  rw [aft_eq, aft_eq, rwF, h]
  simp
theorem aft_last {n : Nat} {pr : List Int} (k : Nat) (hn : pr.length + 1 = n) (h : cb pr.reverse ((nv : Int) - ((k : Int) + 1)) = true) : aft nv cb n pr (k + 1) = (pr.reverse ++ [(nv : Int) - ((k : Int) + 1)]) :: aft nv cb n pr k := by
  rw [aft_eq, aft_eq, rwF, if_pos h, show n - 1 - pr.length = 0 by omega, rws]
  simp
theorem aft_push {n : Nat} {pr : List Int} (k : Nat) (hn : pr.length + 1 < n) (h : cb pr.reverse ((nv : Int) - ((k : Int) + 1)) = true) : aft nv cb n pr (k + 1) = aft nv cb n (((nv : Int) - ((k : Int) + 1)) :: pr) nv := by
  rw [aft_eq nv cb n pr (k + 1), rwF, if_pos h, show n - 1 - pr.length = (n - 1 - (pr.length + 1)) + 1 by omega, rws]
  rw [aft, List.reverse_cons, show ((nv : Int) - 1 - ((nv : Int) - ((k : Int) + 1))).toNat = k by omega, aft_eq nv cb n pr k, show n - 1 - pr.length = (n - 1 - (pr.length + 1)) + 1 by omega]
  simp
theorem aft_pop (n : Nat) (u : Int) (pr : List Int) : aft nv cb n (u :: pr) 0 = aft nv cb n pr ((nv : Int) - 1 - u).toNat := by
  rw [aft, rwF]
  simp
theorem aft_nil (n : Nat) : aft nv cb n [] 0 = [] := by rw [aft, rwF]
theorem aft_all {n : Nat} (hn : 1 ≤ n) : aft nv cb n [] nv = rws nv cb n [] := by
  obtain ⟨m, rfl⟩ : ∃ m, n = m + 1 := ⟨n - 1, by omega⟩
  rw [aft, rws, Nat.add_sub_cancel]
end
/-- how many steps a search takes at most -/
def Wd : Nat → Nat
  | 0 => 37449
  | 1 => 4681
  | 2 => 585
  | 3 => 73
  | 4 => 9
  | 5 => 1
  | _ => 0
theorem Wd_step : ∀ d, d ≤ 4 → Wd d = 8 * Wd (d + 1) + 1 := by decide
theorem Wd_pos : ∀ d, d ≤ 5 → 1 ≤ Wd d := by decide
def Ms : List Int → Nat
  | [] => 0
  | u :: pr => (7 - u).toNat * Wd pr.length + Ms pr
def Sd : Nat → Nat
  | 0 => 0
  | k + 1 => Sd k + Wd k
theorem Ms_b : ∀ (pr : List Int), (∀ u ∈ pr, 0 ≤ u) → Ms pr ≤ 7 * Sd pr.length
  | [], _ => by simp [Ms]
  | u :: pr, h => by
    have h1 := Ms_b pr (fun u hu => h u (List.mem_cons_of_mem _ hu))
    have h2 := h u List.mem_cons_self
    have h3 : (7 - u).toNat * Wd pr.length ≤ 7 * Wd pr.length := Nat.mul_le_mul_right _ (by omega)
    rw [Ms, List.length_cons, Sd]
    omega
theorem Sd_b : ∀ k, k ≤ 6 → Sd k ≤ 42798 := by decide
/-- the measure: the place behind pr, with k verbs left to try of nv -/
def Mm (nv : Nat) (pr : List Int) (k : Nat) : Nat := (8 - ((nv : Int) - k)).toNat * Wd pr.length + Ms pr
theorem Mm_push {nv : Nat} (hnv : nv ≤ 7) {pr : List Int} {k k1 : Nat} (hk : k1 + 1 ≤ k) (hk2 : k ≤ nv) (hd : pr.length ≤ 4) : Mm nv (((nv : Int) - ((k1 : Int) + 1)) :: pr) nv < Mm nv pr k := by
  unfold Mm
  rw [Ms, List.length_cons, Wd_step _ hd, show (8 - ((nv : Int) - (nv : Int))).toNat = 8 by omega]
  have h1 : (8 - ((nv : Int) - k)).toNat = (7 - ((nv : Int) - ((k1 : Int) + 1))).toNat + (k - k1) := by omega
  rw [h1, Nat.add_mul]
  have h2 : 1 * (8 * Wd (pr.length + 1) + 1) ≤ (k - k1) * (8 * Wd (pr.length + 1) + 1) := Nat.mul_le_mul_right _ (by omega)
  omega
theorem Mm_pop {nv : Nat} (hnv : nv ≤ 7) {pr : List Int} {u : Int} (hu : 0 ≤ u ∧ u < nv) {k : Nat} (hk : k ≤ nv) (hd : pr.length + 1 ≤ 5) : Mm nv pr ((nv : Int) - 1 - u).toNat < Mm nv (u :: pr) k := by
  unfold Mm
  rw [Ms, List.length_cons, show (8 - ((nv : Int) - (((nv : Int) - 1 - u).toNat : Nat))).toNat = (7 - u).toNat by omega]
  have h1 := Wd_pos (pr.length + 1) hd
  have h2 : 1 * 1 ≤ (8 - ((nv : Int) - (k : Int))).toNat * Wd (pr.length + 1) := Nat.mul_le_mul (by omega) h1
  omega
theorem Mm_b {nv : Nat} (hnv : nv ≤ 7) {pr : List Int} (hp : ∀ u ∈ pr, 0 ≤ u) {k : Nat} (hk : k ≤ nv) (hd : pr.length ≤ 5) : Mm nv pr k + 2 < 1000000 := by
  unfold Mm
  have h1 := Ms_b pr hp
  have h2 := Sd_b pr.length (by omega)
  have h3 : ∀ d, d ≤ 5 → Wd d ≤ 37449 := by decide
  have h4 := h3 pr.length hd
  have h5 : (8 - ((nv : Int) - (k : Int))).toNat * Wd pr.length ≤ 8 * 37449 := Nat.mul_le_mul (by omega) h4
  omega
/-- the measure, hidden -/
def MmI (nv : Nat) (pr : List Int) (k M : Nat) : Prop := Mm nv pr k = M
theorem MmI.push {nv M : Nat} (hnv : nv ≤ 7) {pr : List Int} {k k1 : Nat} (h : MmI nv pr k M) (hk : k1 + 1 ≤ k) (hk2 : k ≤ nv) (hd : pr.length ≤ 4) : ∃ M', MmI nv (((nv : Int) - ((k1 : Int) + 1)) :: pr) nv M' ∧ M' < M := ⟨_, rfl, by unfold MmI at h; rw [← h]; exact Mm_push hnv hk hk2 hd⟩
theorem MmI.pop {nv M : Nat} (hnv : nv ≤ 7) {pr : List Int} {u : Int} {k : Nat} (h : MmI nv (u :: pr) k M) (hu : 0 ≤ u ∧ u < nv) (hk : k ≤ nv) (hd : pr.length + 1 ≤ 5) : ∃ M', MmI nv pr ((nv : Int) - 1 - u).toNat M' ∧ M' < M := ⟨_, rfl, by unfold MmI at h; rw [← h]; exact Mm_pop hnv hu hk hd⟩
theorem MmI.ex {nv : Nat} (hnv : nv ≤ 7) {pr : List Int} (hp : ∀ u ∈ pr, 0 ≤ u) {k : Nat} (hk : k ≤ nv) (hd : pr.length ≤ 5) : ∃ M, MmI nv pr k M ∧ M + 2 < 1000000 := ⟨_, rfl, Mm_b hnv hp hk hd⟩
/-- whether a verb can come behind a row: of the sack, not taken ahead, can be taken -/
def cbF (cn : Int → Int → Bool) (sk : Int) (p : List Int) (v : Int) : Bool := bit sk v && cn p.length v && !(p.contains v)
