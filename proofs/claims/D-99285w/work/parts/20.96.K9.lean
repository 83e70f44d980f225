set_option maxRecDepth 100000
/-! LAYER 2: all tones -/
def pT (i : Nat) : Int := 2 ^ i
/-- a bit of ten -/
def hB (S o : Int) : Int := iand (ishr S o) 1
theorem ten_fin : ∀ (i : Fin 10) (S : Fin 512), (S.val : Int) < pT i.val → ((0 < ior S.val (ishl 1 i.val) ∧ (ior S.val (ishl 1 i.val) : Int) < pT (i.val + 1)) ∧ ior S.val 0 = (S.val : Int)) ∧ ∀ o : Fin 10, hB (ior S.val (ishl 1 i.val)) o.val = if o = i then 1 else hB S.val o.val := by decide +kernel
theorem ten_0 : ∀ (i : Fin 11) (S : Fin 1024), (S.val : Int) < pT i.val → ∀ o : Fin 10, i.val ≤ o.val → hB S.val o.val = 0 := by decide +kernel
theorem ten_s : ∀ S : Fin 1024, (S.val : Int) = hB S.val 0 + 2 * hB S.val 1 + 4 * hB S.val 2 + 8 * hB S.val 3 + 16 * hB S.val 4 + 32 * hB S.val 5 + 64 * hB S.val 6 + 128 * hB S.val 7 + 256 * hB S.val 8 + 512 * hB S.val 9 := by decide +kernel
theorem ten_p : ∀ i : Fin 10, pT i.val ≤ 512 ∧ pT (i.val + 1) = 2 * pT i.val ∧ 1 ≤ pT i.val := by decide +kernel
theorem ten_ior {i : Nat} {S : Int} (hi : i < 10) (hS : 0 ≤ S ∧ S < pT i) : ((0 < ior S (ishl 1 i) ∧ ior S (ishl 1 i) < pT (i + 1)) ∧ ior S 0 = S) ∧ ∀ o : Int, 0 ≤ o → o < 10 → hB (ior S (ishl 1 i)) o = if o = i then 1 else hB S o := by
  have hp := ten_p ⟨i, hi⟩
  have e : ((S.toNat : Nat) : Int) = S := by omega
  have q := ten_fin ⟨i, hi⟩ ⟨S.toNat, by have := hp.1; dsimp only at this; omega⟩ (by dsimp only; rw [e]; exact hS.2)
  dsimp only at q
  rw [e] at q
  refine ⟨q.1, fun o o0 o1 => ?_⟩
  have eo : ((o.toNat : Nat) : Int) = o := by omega
  have w := q.2 ⟨o.toNat, by omega⟩
  dsimp only at w
  rw [eo] at w
  rw [w]
  by_cases c : o = i
  · rw [if_pos c, if_pos (by apply Fin.ext; dsimp only; omega)]
  · rw [if_neg c, if_neg (fun q => c (by have := congrArg Fin.val q; dsimp only at this; omega))]
theorem ten_hi {i : Nat} {S o : Int} (hi : i ≤ 10) (hS : 0 ≤ S ∧ S < pT i) (h1 : S < 1024) (ho : i ≤ o) (h2 : o < 10) : hB S o = 0 := by
  have e : ((S.toNat : Nat) : Int) = S := by omega
  have eo : ((o.toNat : Nat) : Int) = o := by omega
  have q := ten_0 ⟨i, by omega⟩ ⟨S.toNat, by omega⟩ (by dsimp only; rw [e]; exact hS.2) ⟨o.toNat, by omega⟩ (by dsimp only; omega)
  dsimp only at q
  rw [e, eo] at q
  exact q
theorem ten_ext {S S' : Int} (hS : 0 ≤ S ∧ S < 1024) (hS' : 0 ≤ S' ∧ S' < 1024) (h : ∀ o : Int, 0 ≤ o → o < 10 → hB S o = hB S' o) : S = S' := by
  have e : ((S.toNat : Nat) : Int) = S := by omega
  have e' : ((S'.toNat : Nat) : Int) = S' := by omega
  have q := ten_s ⟨S.toNat, by omega⟩
  have q' := ten_s ⟨S'.toNat, by omega⟩
  dsimp only at q q'
  rw [e] at q
  rw [e'] at q'
  rw [h 0 (by omega) (by omega), h 1 (by omega) (by omega), h 2 (by omega) (by omega), h 3 (by omega) (by omega), h 4 (by omega) (by omega), h 5 (by omega) (by omega), h 6 (by omega) (by omega), h 7 (by omega) (by omega), h 8 (by omega) (by omega), h 9 (by omega) (by omega)] at q
  omega
