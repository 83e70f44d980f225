set_option maxRecDepth 100000
/-! sets of bits, below 128 -/
def bit (a o : Int) : Bool := decide (a / 2 ^ o.toNat % 2 = 1)
def b2i (b : Bool) : Int := if b then 1 else 0
theorem fin2 {P : Int → Int → Prop} (h : ∀ (a : Fin 128) (o : Fin 7), P (a.val : Int) (o.val : Int)) {a o : Int} (ha : 0 ≤ a ∧ a < 128) (ho : 0 ≤ o ∧ o < 7) : P a o := by
  have := h ⟨a.toNat, by omega⟩ ⟨o.toNat, by omega⟩
  simp only at this
  rw [Int.toNat_of_nonneg ha.1, Int.toNat_of_nonneg ho.1] at this
  exact this
theorem fin1 {P : Int → Prop} (h : ∀ (a : Fin 128), P (a.val : Int)) {a : Int} (ha : 0 ≤ a ∧ a < 128) : P a := by
  have := h ⟨a.toNat, by omega⟩
  simp only at this
  rw [Int.toNat_of_nonneg ha.1] at this
  exact this
theorem has_ev {a o : Int} (ha : 0 ≤ a ∧ a < 128) (ho : 0 ≤ o ∧ o < 7) : iand (ishr a o) 1 = b2i (bit a o) := fin2 (P := fun a o => iand (ishr a o) 1 = b2i (bit a o)) (by decide +kernel) ha ho
theorem clr_ev {a o : Int} (ha : 0 ≤ a ∧ a < 128) (ho : 0 ≤ o ∧ o < 7) : iand a (ixor (ishl 1 o) (-1)) = a - b2i (bit a o) * 2 ^ o.toNat := fin2 (P := fun a o => iand a (ixor (ishl 1 o) (-1)) = a - b2i (bit a o) * 2 ^ o.toNat) (by decide +kernel) ha ho
theorem set_ev {a o : Int} (ha : 0 ≤ a ∧ a < 128) (ho : 0 ≤ o ∧ o < 7) : ior a (ishl 1 o) = a + b2i (! bit a o) * 2 ^ o.toNat := fin2 (P := fun a o => ior a (ishl 1 o) = a + b2i (! bit a o) * 2 ^ o.toNat) (by decide +kernel) ha ho
theorem clr_b {a o : Int} (ha : 0 ≤ a ∧ a < 128) (ho : 0 ≤ o ∧ o < 7) : 0 ≤ a - b2i (bit a o) * 2 ^ o.toNat ∧ a - b2i (bit a o) * 2 ^ o.toNat ≤ a := fin2 (P := fun a o => 0 ≤ a - b2i (bit a o) * 2 ^ o.toNat ∧ a - b2i (bit a o) * 2 ^ o.toNat ≤ a) (by decide +kernel) ha ho
theorem clr_bit {a o : Int} (ha : 0 ≤ a ∧ a < 128) (ho : 0 ≤ o ∧ o < 7) {q : Int} (hq : 0 ≤ q ∧ q < 7) : bit (a - b2i (bit a o) * 2 ^ o.toNat) q = (bit a q && decide (q ≠ o)) := by
  have h : ∀ (q : Fin 7) (a : Fin 128) (o : Fin 7), bit ((a.val : Int) - b2i (bit a.val o.val) * 2 ^ (o.val : Int).toNat) q.val = (bit a.val q.val && decide ((q.val : Int) ≠ o.val)) := by decide +kernel
  have := fin2 (P := fun a o => bit (a - b2i (bit a o) * 2 ^ o.toNat) ((⟨q.toNat, by omega⟩ : Fin 7).val : Int) = (bit a ((⟨q.toNat, by omega⟩ : Fin 7).val : Int) && decide (((⟨q.toNat, by omega⟩ : Fin 7).val : Int) ≠ o))) (h ⟨q.toNat, by omega⟩) ha ho
  simp only at this
  rw [Int.toNat_of_nonneg hq.1] at this
  exact this
theorem set_b {a o : Int} (ha : 0 ≤ a ∧ a < 128) (ho : 0 ≤ o ∧ o < 7) : 0 ≤ a + b2i (! bit a o) * 2 ^ o.toNat ∧ a + b2i (! bit a o) * 2 ^ o.toNat < 128 := fin2 (P := fun a o => 0 ≤ a + b2i (! bit a o) * 2 ^ o.toNat ∧ a + b2i (! bit a o) * 2 ^ o.toNat < 128) (by decide +kernel) ha ho
theorem set_bit {a o : Int} (ha : 0 ≤ a ∧ a < 128) (ho : 0 ≤ o ∧ o < 7) {q : Int} (hq : 0 ≤ q ∧ q < 7) : bit (a + b2i (! bit a o) * 2 ^ o.toNat) q = (bit a q || decide (q = o)) := by
  have h : ∀ (q : Fin 7) (a : Fin 128) (o : Fin 7), bit ((a.val : Int) + b2i (! bit a.val o.val) * 2 ^ (o.val : Int).toNat) q.val = (bit a.val q.val || decide ((q.val : Int) = o.val)) := by decide +kernel
  have := fin2 (P := fun a o => bit (a + b2i (! bit a o) * 2 ^ o.toNat) ((⟨q.toNat, by omega⟩ : Fin 7).val : Int) = (bit a ((⟨q.toNat, by omega⟩ : Fin 7).val : Int) || decide (((⟨q.toNat, by omega⟩ : Fin 7).val : Int) = o))) (h ⟨q.toNat, by omega⟩) ha ho
  simp only at this
  rw [Int.toNat_of_nonneg hq.1] at this
  exact this
theorem bits_eq {a : Int} (ha : 0 ≤ a ∧ a < 128) : a = b2i (bit a 0) + 2 * b2i (bit a 1) + 4 * b2i (bit a 2) + 8 * b2i (bit a 3) + 16 * b2i (bit a 4) + 32 * b2i (bit a 5) + 64 * b2i (bit a 6) := fin1 (P := fun a => a = b2i (bit a 0) + 2 * b2i (bit a 1) + 4 * b2i (bit a 2) + 8 * b2i (bit a 3) + 16 * b2i (bit a 4) + 32 * b2i (bit a 5) + 64 * b2i (bit a 6)) (by decide +kernel) ha
theorem bit_ext {a b : Int} (ha : 0 ≤ a ∧ a < 128) (hb : 0 ≤ b ∧ b < 128) (h : ∀ o : Int, 0 ≤ o → o < 7 → bit a o = bit b o) : a = b := by
  rw [bits_eq ha, bits_eq hb, h 0 (by omega) (by omega), h 1 (by omega) (by omega), h 2 (by omega) (by omega), h 3 (by omega) (by omega), h 4 (by omega) (by omega), h 5 (by omega) (by omega), h 6 (by omega) (by omega)]
theorem full_ev : ∀ n : Nat, n ≤ 7 → ishl 1 n - 1 = 2 ^ n - 1 ∧ ∀ o : Fin 7, bit (2 ^ n - 1) o.val = decide (o.val < n) := by decide +kernel
