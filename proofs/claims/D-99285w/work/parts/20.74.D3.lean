set_option maxRecDepth 100000
/-! LAYER 2: the shortest round of both -/
theorem lenF_cg {cl cl' rw rw' : Int → Int} : ∀ (l : List Int) (x y : Int), (∀ a ∈ l, cl a = cl' a ∧ rw a = rw' a) → lenF cl rw x y l = lenF cl' rw' x y l
  | [], _, _, _ => rfl
  | a :: l, x, y, h => by
    obtain ⟨h1, h2⟩ := h a List.mem_cons_self
    rw [lenF, lenF, stp, stp, h1, h2, lenF_cg l _ _ (fun b hb => h b (List.mem_cons_of_mem _ hb))]
theorem dfold_cg {cl cl' rw rw' : Int → Int} {dusk : Int} : ∀ (l : List Int) (set t x y : Int), (∀ a ∈ l, cl a = cl' a ∧ rw a = rw' a) → dfold cl rw dusk set t x y l = dfold cl' rw' dusk set t x y l
  | [], _, _, _, _, _ => rfl
  | a :: l, set, t, x, y, h => by
    obtain ⟨h1, h2⟩ := h a List.mem_cons_self
    rw [dfold, dfold, stp, stp, h1, h2, dfold_cg l _ _ _ _ (fun b hb => h b (List.mem_cons_of_mem _ hb))]
theorem fold_cg {f g : List Int → Int} : ∀ (ls : List (List Int)) (b : Option (List Int)), (∀ l ∈ ls, f l = g l) → (∀ l, b = some l → f l = g l) → ls.foldl (better f) b = ls.foldl (better g) b
  | [], _, _, _ => rfl
  | q :: ls, b, h, hb => by
    rw [List.foldl_cons, List.foldl_cons]
    have hq := h q List.mem_cons_self
    have e : better f b q = better g b q := by
      cases b with
      | none => rfl
      | some l0 => rw [better_some, better_some, hq, hb l0 rfl]
    rw [e]
    refine fold_cg ls _ (fun l hl => h l (List.mem_cons_of_mem _ hl)) (fun l hl => ?_)
    cases b with
    | none =>
      cases hl
      exact hq
    | some l0 =>
      rw [better_some] at hl
      split at hl
      · cases hl; exact hq
      · cases hl; exact hb _ rfl
theorem tms_last (cl rw : Int → Int) : ∀ (l : List Int) (t x y : Int), ∀ u ∈ tms cl rw t x y l, u ≤ t + lenF cl rw x y l
  | [], _, _, _, u, h => by cases h
  | a :: l, t, x, y, u, h => by
    rw [tms] at h
    rw [lenF]
    rcases List.mem_cons.mp h with rfl | h
    · have := lenF_nn cl rw l (cl a) (rw a); omega
    · have := tms_last cl rw l _ _ _ u h; omega
theorem tms_end (cl rw : Int → Int) : ∀ (l : List Int) (t x y : Int), l ≠ [] → (tms cl rw t x y l)[l.length - 1]? = some (t + lenF cl rw x y l)
  | [], _, _, _, h => absurd rfl h
  | [a], t, x, y, _ => by simp [tms, lenF]
  | a :: b :: l, t, x, y, _ => by
    have := tms_end cl rw (b :: l) (t + stp cl rw x y a) (cl a) (rw a) (by simp)
    rw [tms, lenF, List.length_cons, Nat.add_sub_cancel]
    rw [List.length_cons, Nat.add_sub_cancel] at this
    rw [List.length_cons, List.getElem?_cons_succ, this]
    congr 1
    omega
section
variable {τ τ' : XS} {s s' : MS} {N c : Int} {es fs : List Int} {ws vs : List (List Int)} {a u : Int}
theorem round_ok (h : RLc τ s N c es fs ws vs) : ∃ l τ' s' D, x5_by c τ = some (14, τ') ∧ m_laysRound s = some (0, s') ∧ (lox τ τ' ∧ only [57, 58, 59] s s') ∧ okL ws.length l = true ∧ (τ' 14 4 = s' 59 0 ∧ 0 ≤ s' 59 0 ∧ s' 59 0 ≤ 1000) ∧ (holdsX τ' 15 l ∧ holdsL s' 58 l) ∧ (x5_dark τ' = some (D, τ') ∧ 0 ≤ D ∧ D < 128) ∧ (∀ s2 : MS, s2 36 = s 36 → s2 48 = s 48 → s2 35 = s 35 → s2 58 = s' 58 → m_darkSet s2 = some (D, s2)) ∧ (D = 0 ↔ s' 59 0 ≤ s 35 2) := by
  obtain ⟨hal, hS, hc, hst⟩ := id h
  have hct := hS.cty
  obtain ⟨-, ⟨⟨-, hn, h36⟩, -, hv, h37⟩, ⟨hd, -⟩, -⟩ := id hS
  have agree : ∀ o : Int, 0 ≤ o → o < ws.length → τ (c + 1) o = wcol (s 48) o ∧ τ (c + 2) o = wrow (s 48) o := fun o h0 h1 => ⟨(hst.2.2 o h0 h1).1.1, (hst.2.2 o h0 h1).2.1.1⟩
  have hpm : placeOk ws.length (s 48) := fun o h0 h1 => ⟨(hst.2.2 o h0 h1).1.2, (hst.2.2 o h0 h1).2.1.2⟩
  have hpx : placX ws.length (τ (c + 1)) (τ (c + 2)) := fun o h0 h1 => by
    obtain ⟨q1, q2⟩ := agree o h0 h1
    rw [q1, q2]
    exact hpm o h0 h1
  obtain ⟨l, e1, e2⟩ := rdF_some hn (τ (c + 1)) (τ (c + 2))
  obtain ⟨el, em⟩ := okL_at e2
  have ag : ∀ a ∈ l, τ (c + 1) a = wcol (s 48) a ∧ τ (c + 2) a = wrow (s 48) a := fun a ha => agree a (em a ha).1 (em a ha).2
  have erd : rd ws.length (s 48) = some l := by
    rw [← e1]
    unfold rd rdF
    refine (fold_cg _ none (fun q hq => ?_) (fun q hq => by cases hq)).symm
    have hall := (perms_chain ws.length hn).2.2
    have := (okL_at (List.all_eq_true.mp hall q hq)).2
    exact lenF_cg q 0 0 (fun a ha => agree a (this a ha).1 (this a ha).2)
  obtain ⟨τ1, x1, x2, x3⟩ := x_by hn hc hct hpx
  obtain ⟨s1, m1, m2, m3⟩ := m_laysRound_ev hn s h36 hpm
  rw [erd] at m3
  have x3' : wkOk (τ (c + 1)) (τ (c + 2)) ws.length τ1 (some l) := by
    have q := x3
    rw [show (perms ws.length (rng ws.length)).foldl (better (lenF (τ (c + 1)) (τ (c + 2)) 0 0)) none = some l from e1] at q
    exact q
  have l1 : lox τ τ1 := lox.of x2 (by simp)
  obtain ⟨w1, w2, w3, w4, w5⟩ := x3'
  obtain ⟨m4, m5, m6⟩ := m3
  rw [m2 48 (by decide)] at m5
  have lcg := lenF_cg l 0 0 ag
  have lnn := lenF_nn (τ (c + 1)) (τ (c + 2)) l 0 0
  have hct1 := hct.kept x2 stand_walk
  have c00 : τ1 0 = τ 0 := l1 0 (by omega)
  have hcd : τ1 (τ1 0 0) 1 = s 35 2 := by
    rw [c00, l1 (τ 0 0) (by have := hS.1.1.1.1; unfold dyn at this; omega)]
    exact hd.1
  have xd := x_dark hn hct1 (by rw [hcd]; omega) hpx e2 ⟨w1, w2, w3, w4, w5⟩
  rw [hcd] at xd
  obtain ⟨db, dbit⟩ := dfold_b hn (τ (c + 1)) (τ (c + 2)) (s 35 2) l 0 0 0 0 (by omega) (fun a ha => by have := em a ha; omega)
  refine ⟨l, τ1, s1, darkF (τ (c + 1)) (τ (c + 2)) (s 35 2) l, x1, m1, ⟨l1, m2⟩, e2, ⟨by rw [w2, m5, lcg], by rw [m5, ← lcg]; exact ⟨lnn, w3⟩⟩, ⟨w4, m6⟩, ⟨xd, db⟩, fun s2 q1 q2 q3 q4 => ?_, ?_⟩
  · have := m_darkSet_ev hn (s := s2) (by rw [q1]; exact h36) (by rw [q2]; exact hpm) (by rw [q3]; omega) e2 (m6.of q4)
    rw [this, q2, q3]
    unfold darkF
    rw [dfold_cg l 0 0 0 0 ag]
  · rw [m5, ← lcg]
    constructor
    · intro h0
      by_cases hl : l = []
      · rw [hl]
        rw [show lenF (τ (c + 1)) (τ (c + 2)) 0 0 [] = 0 from rfl]
        omega
      · have q := tms_end (τ (c + 1)) (τ (c + 2)) l 0 0 0 hl
        rw [Int.zero_add] at q
        have hlen : l.length - 1 < l.length := by have := List.length_pos_iff.mpr hl; omega
        by_cases hc0 : lenF (τ (c + 1)) (τ (c + 2)) 0 0 l ≤ s 35 2
        · exact hc0
        · exfalso
          have ho := em _ (List.getElem_mem hlen)
          have hb := (dbit (l[l.length - 1]) ho.1 (by omega)).mpr (Or.inr ⟨l.length - 1, _, List.getElem?_eq_getElem hlen, q, by omega⟩)
          unfold darkF at h0
          rw [h0] at hb
          have z : ∀ o : Fin 7, bit 0 o.val = false := by decide
          have z1 := z ⟨(l[l.length - 1]).toNat, by omega⟩
          dsimp only at z1
          rw [show (((l[l.length - 1]).toNat : Nat) : Int) = l[l.length - 1] by omega] at z1
          rw [z1] at hb
          cases hb
    · intro hle
      refine bit_ext db (by omega) (fun o h0 h1 => ?_)
      have z : ∀ o : Fin 7, bit 0 o.val = false := by decide
      have z1 := z ⟨o.toNat, by omega⟩
      dsimp only at z1
      rw [show ((o.toNat : Nat) : Int) = o by omega] at z1
      rw [z1]
      cases hb : bit (darkF (τ (c + 1)) (τ (c + 2)) (s 35 2) l) o with
      | false => rfl
      | true =>
        exfalso
        rcases (dbit o h0 h1).mp hb with q | ⟨i, w, q1, q2, q3⟩
        · rw [z1] at q; cases q
        · have := tms_last (τ (c + 1)) (τ (c + 2)) l 0 0 0 w (List.mem_of_getElem? q2)
          omega
end
