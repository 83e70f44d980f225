set_option maxRecDepth 100000
/-! the round of both: the sayings left in the dark -/
theorem best_mem {f : List Int → Int} : ∀ (ls : List (List Int)) (b : Option (List Int)) (l : List Int), ls.foldl (better f) b = some l → l ∈ ls ∨ b = some l
  | [], b, l, h => Or.inr h
  | q :: ls, b, l, h => by
    rcases best_mem ls _ l h with h | h
    · exact Or.inl (List.mem_cons_of_mem _ h)
    · cases b with
      | none => cases h; exact Or.inl List.mem_cons_self
      | some l0 =>
        rw [better_some] at h
        split at h
        · cases h; exact Or.inl List.mem_cons_self
        · exact Or.inr h
theorem best_some {f : List Int → Int} : ∀ (ls : List (List Int)) (b : Option (List Int)), (ls ≠ [] ∨ b ≠ none) → ∃ l, ls.foldl (better f) b = some l
  | [], b, h => by
    cases b with
    | none => simp at h
    | some l => exact ⟨l, rfl⟩
  | q :: ls, b, h => best_some ls _ (Or.inr (by cases b with | none => simp [better] | some l => rw [better_some]; split <;> simp))
def rdF (n : Nat) (cl rw : Int → Int) : Option (List Int) := (perms n (rng n)).foldl (better (lenF cl rw 0 0)) none
theorem rdF_some {n : Nat} (hn : n ≤ 6) (cl rw : Int → Int) : ∃ l, rdF n cl rw = some l ∧ okL n l = true := by
  obtain ⟨c1, c2, c3⟩ := perms_chain n hn
  obtain ⟨l, h⟩ := best_some (f := lenF cl rw 0 0) (perms n (rng n)) none (Or.inl fun h => by rw [h] at c1; cases c1)
  refine ⟨l, h, ?_⟩
  rcases best_mem _ _ _ h with h | h
  · exact List.all_eq_true.mp c3 l h
  · cases h
def dfold (cl rw : Int → Int) (dusk : Int) : Int → Int → Int → Int → List Int → Int
  | set, _, _, _, [] => set
  | set, t, x, y, s :: l => dfold cl rw dusk (if t + stp cl rw x y s ≤ dusk then set else set + b2i (! bit set s) * 2 ^ s.toNat) (t + stp cl rw x y s) (cl s) (rw s) l
theorem dfold_b {n : Nat} (hn : n ≤ 6) (cl rw : Int → Int) (dusk : Int) : ∀ (l : List Int) (set t x y : Int), (0 ≤ set ∧ set < 128) → (∀ a ∈ l, 0 ≤ a ∧ a < n) → (0 ≤ dfold cl rw dusk set t x y l ∧ dfold cl rw dusk set t x y l < 128) ∧
    ∀ o : Int, 0 ≤ o → o < 7 → (bit (dfold cl rw dusk set t x y l) o = true ↔ bit set o = true ∨ ∃ (i : Nat) (u : Int), l[i]? = some o ∧ (tms cl rw t x y l)[i]? = some u ∧ dusk < u)
  | [], set, t, x, y, hs, _ => ⟨hs, fun o h0 h1 => by simp [dfold]⟩
  | a :: l, set, t, x, y, hs, hl => by
    have ha := hl a List.mem_cons_self
    have hl' := fun b hb => hl b (List.mem_cons_of_mem a hb)
    rw [dfold]
    have key : ∀ o : Int, (∃ (i : Nat) (u : Int), (a :: l)[i]? = some o ∧ (tms cl rw t x y (a :: l))[i]? = some u ∧ dusk < u) ↔ (a = o ∧ dusk < t + stp cl rw x y a) ∨ ∃ (i : Nat) (u : Int), l[i]? = some o ∧ (tms cl rw (t + stp cl rw x y a) (cl a) (rw a) l)[i]? = some u ∧ dusk < u := by
      intro o
      rw [tms]
      constructor
      · rintro ⟨i, u, h1, h2, h3⟩
        cases i with
        | zero => simp at h1 h2; left; subst h1; subst h2; exact ⟨rfl, h3⟩
        | succ i => right; exact ⟨i, u, by simpa using h1, by simpa using h2, h3⟩
      · rintro (⟨rfl, h3⟩ | ⟨i, u, h1, h2, h3⟩)
        · exact ⟨0, _, rfl, rfl, h3⟩
        · exact ⟨i + 1, u, by simpa using h1, by simpa using h2, h3⟩
    by_cases c : t + stp cl rw x y a ≤ dusk
    · rw [if_pos c]
      obtain ⟨e1, e2⟩ := dfold_b hn cl rw dusk l set (t + stp cl rw x y a) (cl a) (rw a) hs hl'
      refine ⟨e1, fun o h0 h1 => ?_⟩
      rw [e2 o h0 h1, key]
      constructor
      · rintro (h | h)
        · exact Or.inl h
        · exact Or.inr (Or.inr h)
      · rintro (h | ⟨-, h⟩ | h)
        · exact Or.inl h
        · omega
        · exact Or.inr h
    · rw [if_neg c]
      obtain ⟨e1, e2⟩ := dfold_b hn cl rw dusk l (set + b2i (! bit set a) * 2 ^ a.toNat) (t + stp cl rw x y a) (cl a) (rw a) (set_b hs ⟨ha.1, by omega⟩) hl'
      refine ⟨e1, fun o h0 h1 => ?_⟩
      rw [e2 o h0 h1, key, set_bit hs ⟨ha.1, by omega⟩ ⟨h0, h1⟩]
      simp only [Bool.or_eq_true, decide_eq_true_eq]
      constructor
      · rintro ((h | h) | h)
        · exact Or.inl h
        · exact Or.inr (Or.inl ⟨h.symm, by omega⟩)
        · exact Or.inr (Or.inr h)
      · rintro (h | ⟨h, -⟩ | h)
        · exact Or.inl (Or.inl h)
        · exact Or.inl (Or.inr h.symm)
        · exact Or.inr h
/-- the set of those in the dark -/
def darkF (cl rw : Int → Int) (dusk : Int) (l : List Int) : Int := dfold cl rw dusk 0 0 0 0 l
theorem m_dark_go {n : Nat} (hn : n ≤ 6) {s : MS} (h36 : s 36 2 = n) (hp : placeOk n (s 48)) (hd : 0 ≤ s 35 2 ∧ s 35 2 ≤ 1000) {l : List Int} (hl : okL n l = true) (hs : holdsL s 58 l) :
    ∀ (d fuel : Nat) (i set t x y : Int), 0 ≤ i → i + d = n → d < fuel → (0 ≤ set ∧ set < 128) → 0 ≤ t → t ≤ 18 * i → (0 ≤ x ∧ x ≤ 9) → (0 ≤ y ∧ y ≤ 9) → ∀ k, m_darkSet_L12 k fuel set t x y i s = k (dfold (wcol (s 48)) (wrow (s 48)) (s 35 2) set t x y (l.drop i.toNat)) s := by
  intro d
  induction d with
  | zero =>
    intro fuel i set t x y h0 h1 h2 hb h3 h4 hx hy k
    obtain ⟨g, rfl⟩ : ∃ g, fuel = g + 1 := ⟨fuel - 1, by omega⟩
    have hlen := (okL_at hl).1
    rw [m_darkSet_L12, List.drop_eq_nil_of_le (by omega)]
    simp (disch := omega) only [gd_t, gd_T, gd_ok, not_false_eq_true, eq_self, bnd_r, bind_s, ite_t, ite_n, ite_T, ite_F, i32_id, m_sayingMany_ev, h36, dfold]
  | succ d ih =>
    intro fuel i set t x y h0 h1 h2 hb h3 h4 hx hy k
    obtain ⟨g, rfl⟩ : ∃ g, fuel = g + 1 := ⟨fuel - 1, by omega⟩
    have hlen := (okL_at hl).1
    have e1 := hs i (by omega) (by omega)
    have a1 := okL_get hl (i := i) (by omega) (by omega)
    have p1 := hp _ a1.1 a1.2
    have p2 := stp_b hp a1.1 a1.2 hx hy
    have hsb := set_b hb (o := l.getD i.toNat 0) ⟨a1.1, by omega⟩
    rw [m_darkSet_L12, drop_cons h0 (by omega), dfold]
    simp (disch := omega) only [gd_t, gd_T, gd_ok, not_false_eq_true, eq_self, bnd_r, bind_s, ite_t, ite_n, ite_T, ite_F, i32_id, m_sayingMany_ev, h36, e1, m_steps hn hp a1.1 a1.2 hx hy, m_columnOf_ev, m_rowOf_ev]
    by_cases c : t + stp (wcol (s 48)) (wrow (s 48)) x y (l.getD i.toNat 0) ≤ s 35 2
    · simp (disch := omega) only [gd_t, gd_T, gd_ok, not_false_eq_true, eq_self, bnd_r, bind_s, ite_t, ite_n, ite_T, ite_F, i32_id]
      exact ih g (i + 1) _ _ _ _ (by omega) (by omega) (by omega) hb (by omega) (by omega) p1.1 p1.2 k
    · simp (disch := omega) only [gd_t, gd_T, gd_ok, not_false_eq_true, eq_self, bnd_r, bind_s, ite_t, ite_n, ite_T, ite_F, i32_id, set_ev hb ⟨a1.1, (by omega : l.getD i.toNat 0 < 7)⟩]
      exact ih g (i + 1) _ _ _ _ (by omega) (by omega) (by omega) hsb (by omega) (by omega) p1.1 p1.2 k
theorem m_darkSet_ev {n : Nat} (hn : n ≤ 6) {s : MS} (h36 : s 36 2 = n) (hp : placeOk n (s 48)) (hd : 0 ≤ s 35 2 ∧ s 35 2 ≤ 1000) {l : List Int} (hl : okL n l = true) (hs : holdsL s 58 l) : m_darkSet s = some (darkF (wcol (s 48)) (wrow (s 48)) (s 35 2) l, s) := by
  unfold m_darkSet
  simp only [bnd_r]
  rw [m_dark_go hn h36 hp hd hl hs n FU 0 0 0 0 0 (by omega) (by omega) (by have := FU_ge; omega) (by omega) (by omega) (by omega) (by omega) (by omega)]
  rfl
/-- the country's dusk, as the system has it -/
theorem x_dark {n : Nat} (hn : n ≤ 6) {v : Int} {τ : XS} (hct : cty τ n v) (hd : 0 ≤ τ (τ 0 0) 1 ∧ τ (τ 0 0) 1 ≤ 1000) {cl rw : Int → Int} (hpl : placX n cl rw) {l : List Int} (hl : okL n l = true) (hw : wkOk cl rw n τ (some l)) : x5_dark τ = some (darkF cl rw (τ (τ 0 0) 1) l, τ) := by
  obtain ⟨w1, w2, w3, w4, w5⟩ := hw
  obtain ⟨hlen, hmem⟩ := okL_at hl
  obtain ⟨⟨a1, a2⟩, -⟩ := id hct
  have e1 : tg true τ (τ 0 0) = 2 := by rw [tg_dyn a1, a2]; rfl
  obtain ⟨D1, D2⟩ := dfold_b hn cl rw (τ (τ 0 0) 1) l 0 0 0 0 (by omega) hmem
  have comes : ∀ o : Int, 0 ≤ o → o < n → (0 ≤ τ 16 o ∧ τ 16 o ≤ 1000) ∧ (bit (darkF cl rw (τ (τ 0 0) 1) l) o = true ↔ τ (τ 0 0) 1 < τ 16 o) := by
    intro o h0 h1
    have ho := okL_mem hl (mem_rng.mpr ⟨h0, h1⟩)
    obtain ⟨i, hi, hio⟩ := List.getElem_of_mem ho
    have hio' : l[i]? = some o := by rw [List.getElem?_eq_getElem hi, hio]
    have hti : i < (tms cl rw 0 0 0 l).length := by rw [tms_len]; exact hi
    have et : (tms cl rw 0 0 0 l)[i]? = some ((tms cl rw 0 0 0 l)[i]) := List.getElem?_eq_getElem hti
    have hb : ∀ u ∈ tms cl rw 0 0 0 l, 0 ≤ u ∧ u ≤ 1000 := by
      have : ∀ (l : List Int) (t x y : Int), (∀ a ∈ l, 0 ≤ a ∧ a < n) → 0 ≤ t → (0 ≤ x ∧ x ≤ 9) → (0 ≤ y ∧ y ≤ 9) → ∀ u ∈ tms cl rw t x y l, 0 ≤ u ∧ u ≤ t + 18 * l.length := by
        intro l
        induction l with
        | nil => intro t x y _ _ _ _ u hu; cases hu
        | cons a l ih =>
          intro t x y hl ht hx hy u hu
          have h1 := hl a List.mem_cons_self
          have h2 := hpl a h1.1 h1.2
          have h3 : 0 ≤ stp cl rw x y a ∧ stp cl rw x y a ≤ 18 := by unfold stp; omega
          rw [tms] at hu
          rw [List.length_cons]
          rcases List.mem_cons.mp hu with rfl | hu
          · omega
          · have := ih _ _ _ (fun b hb => hl b (List.mem_cons_of_mem _ hb)) (by omega) h2.1 h2.2 u hu
            omega
      intro u hu
      have := this l 0 0 0 hmem (by omega) (by omega) (by omega) u hu
      omega
    have e16 := w5 i o _ hio' et
    have hbt := hb _ (List.getElem_mem hti)
    rw [e16]
    refine ⟨hbt, ?_⟩
    unfold darkF
    rw [D2 o h0 (by omega)]
    constructor
    · rintro (h | ⟨j, u, q1, q2, q3⟩)
      · simp [bit] at h
      · rw [← e16, w5 j o u q1 q2]; exact q3
    · intro h
      exact Or.inr ⟨i, _, hio', et, h⟩
  unfold x5_dark
  simp only [bnd_r]
  obtain ⟨⟨st, τ'⟩, ⟨g1, g2, g3, g4⟩, h2⟩ := for0 (fun f i (z : Int × XS) => x5_dark_L4 (fun x1 s => some (x1, s)) f z.1 i z.2) (fun z => some (z.1, z.2)) n (fun i z => z.2 = τ ∧ (0 ≤ z.1 ∧ z.1 < 128) ∧ (∀ o : Int, 0 ≤ o → o < i → bit z.1 o = bit (darkF cl rw (τ (τ 0 0) 1) l) o) ∧ ∀ o : Int, i ≤ o → o < 7 → bit z.1 o = false) (by omega) (by omega)
    (fun i z hI h0 hi => by
      obtain ⟨rfl, hb, hA, hB⟩ := hI
      obtain ⟨c1, c2⟩ := comes i h0 hi
      by_cases c : z.2 16 i ≤ z.2 (z.2 0 0) 1
      · have hbi : bit (darkF cl rw (z.2 (z.2 0 0) 1) l) i = false := by
          cases q : bit (darkF cl rw (z.2 (z.2 0 0) 1) l) i with
          | false => rfl
          | true => have := c2.mp q; omega
        refine ⟨(z.1, z.2), ⟨rfl, hb, fun o q0 q1 => ?_, fun o q0 q1 => hB o (by omega) q1⟩, fun f => ?_⟩
        · by_cases q : o = i
          · subst q; rw [hbi]; exact hB o (by omega) (by omega)
          · exact hA o q0 (by omega)
        · show x5_dark_L4 _ (f + 1) z.1 i z.2 = x5_dark_L4 _ f z.1 (i + 1) z.2
          rw [x5_dark_L4]
          have hor : ior z.1 0 = z.1 := fin1 (P := fun a => ior a 0 = a) (by decide +kernel) hb
          simp (disch := omega) only [gd_t, gd_T, gd_ok, not_false_eq_true, eq_self, bnd_r, bind_s, ite_t, ite_n, ite_T, ite_F, i32_id, sayings_ev hct, gd_t (dyn_ne a1), gd_t e1, hor]
      · have hbi : bit (darkF cl rw (z.2 (z.2 0 0) 1) l) i = true := c2.mpr (by omega)
        have hsb := set_b hb (o := i) ⟨h0, by omega⟩
        refine ⟨(z.1 + b2i (! bit z.1 i) * 2 ^ i.toNat, z.2), ⟨rfl, hsb, fun o q0 q1 => ?_, fun o q0 q1 => ?_⟩, fun f => ?_⟩
        · simp only
          rw [set_bit hb ⟨h0, by omega⟩ ⟨q0, by omega⟩]
          by_cases q : o = i
          · subst q; rw [hbi]; simp
          · rw [hA o q0 (by omega)]; simp [q]
        · simp only
          rw [set_bit hb ⟨h0, by omega⟩ ⟨by omega, q1⟩, hB o (by omega) q1]
          simp; omega
        · show x5_dark_L4 _ (f + 1) z.1 i z.2 = x5_dark_L4 _ f _ (i + 1) z.2
          rw [x5_dark_L4]
          simp (disch := omega) only [gd_t, gd_T, gd_ok, not_false_eq_true, eq_self, bnd_r, bind_s, ite_t, ite_n, ite_T, ite_F, i32_id, sayings_ev hct, gd_t (dyn_ne a1), gd_t e1, set_ev hb ⟨h0, (by omega : i < 7)⟩])
    (fun z hI f => by
      obtain ⟨rfl, hb, hA, hB⟩ := hI
      show x5_dark_L4 _ (f + 1) z.1 n z.2 = some (z.1, z.2)
      rw [x5_dark_L4]
      simp (disch := omega) only [gd_t, gd_T, gd_ok, not_false_eq_true, eq_self, bnd_r, bind_s, ite_t, ite_n, ite_T, ite_F, i32_id, sayings_ev hct]) (0, τ) ⟨rfl, by simp, fun o h0 h1 => by omega, fun o h0 h1 => by simp [bit]⟩
  simp only at g1 g2 g3 g4 h2
  subst g1
  rw [h2]
  congr 2
  refine bit_ext g2 D1 fun o h0 h1 => ?_
  by_cases q : o < n
  · exact g3 o h0 q
  · rw [g4 o (by omega) h1]
    cases hq : bit (darkF cl rw (τ' (τ' 0 0) 1) l) o with
    | false => rfl
    | true =>
      unfold darkF at hq
      rw [D2 o h0 h1] at hq
      rcases hq with h | ⟨i, u, q1, -⟩
      · simp [bit] at h
      · have := hmem o (List.mem_of_getElem? q1)
        omega
