set_option maxRecDepth 100000
/-! LAYER 2: verbs chosen in turn: the reference -/
theorem sub_fin : ∀ (a b : Fin 128), (iand a.val (ixor b.val (-1)) = 0 ↔ ∀ o : Fin 7, bit a.val o.val = true → bit b.val o.val = true) := by decide +kernel
theorem sub_ev {a b : Int} (ha : 0 ≤ a ∧ a < 128) (hb : 0 ≤ b ∧ b < 128) : iand a (ixor b (-1)) = 0 ↔ ∀ o : Int, 0 ≤ o → o < 7 → bit a o = true → bit b o = true := by
  have q := sub_fin ⟨a.toNat, by omega⟩ ⟨b.toNat, by omega⟩
  dsimp only at q
  rw [show ((a.toNat : Nat) : Int) = a by omega, show ((b.toNat : Nat) : Int) = b by omega] at q
  rw [q]
  constructor
  · intro h o o0 o1 ob
    have := h ⟨o.toNat, by omega⟩
    dsimp only at this
    rw [show ((o.toNat : Nat) : Int) = o by omega] at this
    exact this ob
  · intro h o ob
    exact h o.val (by omega) (by omega) ob
theorem set_p {a o : Int} (ha : 0 ≤ a ∧ a < 128) (ho : 0 ≤ o ∧ o < 7) : bit a o = false → popF (ior a (ishl 1 o)) = popF a + 1 ∧ a < ior a (ishl 1 o) := fin2 (P := fun a o => bit a o = false → popF (ior a (ishl 1 o)) = popF a + 1 ∧ a < ior a (ishl 1 o)) (by decide +kernel) ha ho
/-- the number with given bits -/
def mkB (f : Int → Bool) : Int := b2i (f 0) + 2 * b2i (f 1) + 4 * b2i (f 2) + 8 * b2i (f 3) + 16 * b2i (f 4) + 32 * b2i (f 5) + 64 * b2i (f 6)
theorem mkB_fin : ∀ a0 a1 a2 a3 a4 a5 a6 : Bool, (0 ≤ b2i a0 + 2 * b2i a1 + 4 * b2i a2 + 8 * b2i a3 + 16 * b2i a4 + 32 * b2i a5 + 64 * b2i a6 ∧ b2i a0 + 2 * b2i a1 + 4 * b2i a2 + 8 * b2i a3 + 16 * b2i a4 + 32 * b2i a5 + 64 * b2i a6 < 128) ∧ bit (b2i a0 + 2 * b2i a1 + 4 * b2i a2 + 8 * b2i a3 + 16 * b2i a4 + 32 * b2i a5 + 64 * b2i a6) 0 = a0 ∧ bit (b2i a0 + 2 * b2i a1 + 4 * b2i a2 + 8 * b2i a3 + 16 * b2i a4 + 32 * b2i a5 + 64 * b2i a6) 1 = a1 ∧ bit (b2i a0 + 2 * b2i a1 + 4 * b2i a2 + 8 * b2i a3 + 16 * b2i a4 + 32 * b2i a5 + 64 * b2i a6) 2 = a2 ∧ bit (b2i a0 + 2 * b2i a1 + 4 * b2i a2 + 8 * b2i a3 + 16 * b2i a4 + 32 * b2i a5 + 64 * b2i a6) 3 = a3 ∧ bit (b2i a0 + 2 * b2i a1 + 4 * b2i a2 + 8 * b2i a3 + 16 * b2i a4 + 32 * b2i a5 + 64 * b2i a6) 4 = a4 ∧ bit (b2i a0 + 2 * b2i a1 + 4 * b2i a2 + 8 * b2i a3 + 16 * b2i a4 + 32 * b2i a5 + 64 * b2i a6) 5 = a5 ∧ bit (b2i a0 + 2 * b2i a1 + 4 * b2i a2 + 8 * b2i a3 + 16 * b2i a4 + 32 * b2i a5 + 64 * b2i a6) 6 = a6 := by decide +kernel
theorem mkB_b (f : Int → Bool) : (0 ≤ mkB f ∧ mkB f < 128) ∧ ∀ o : Int, 0 ≤ o → o < 7 → bit (mkB f) o = f o := by
  obtain ⟨h, h0, h1, h2, h3, h4, h5, h6⟩ := mkB_fin (f 0) (f 1) (f 2) (f 3) (f 4) (f 5) (f 6)
  refine ⟨h, fun o o0 o1 => ?_⟩
  have ho : o = 0 ∨ o = 1 ∨ o = 2 ∨ o = 3 ∨ o = 4 ∨ o = 5 ∨ o = 6 := by omega
  rcases ho with rfl | rfl | rfl | rfl | rfl | rfl | rfl
  · exact h0
  · exact h1
  · exact h2
  · exact h3
  · exact h4
  · exact h5
  · exact h6
/-- what is left of the sack when a set is taken -/
def lfB (of S : Int) : Int := mkB fun o => bit of o && !(bit S o)
section
variable {s s' : MS} {n nv : Nat} {of one other : Int} {cn : Int → Int → Bool} {wl : Int → Int → Int}
/-- what a set comes to -/
def mvF (nv : Nat) (wl : Int → Int → Int) (one other of S : Int) : Int := if popF S % 2 = 0 then chF nv wl (6 - popF S).toNat one other (lfB of S) else - chF nv wl (6 - popF S).toNat other one (lfB of S)
/-- of a set, which is not the sack's, nothing -/
def mvT (nv : Nat) (wl : Int → Int → Int) (one other of S : Int) : Int := if iand S (ixor of (-1)) = 0 then mvF nv wl one other of S else 0
theorem irem2 {a : Int} (h : 0 ≤ a ∧ a ≤ 7) : irem a 2 = a % 2 := by
  unfold irem
  rw [i32_id (by omega) (by omega), show i32 2 = 2 by decide, Int.tdiv_eq_ediv_of_nonneg h.1]
  omega
/-- sets above S are told -/
def moR (s : MS) (nv : Nat) (wl : Int → Int → Int) (one other of S : Int) : Prop := ∀ T : Int, S < T → T < 2 ^ nv → s 63 T = mvT nv wl one other of T
theorem lf_bits {S : Int} (o : Int) (h0 : 0 ≤ o) (h1 : o < 7) : bit (lfB of S) o = (bit of o && !(bit S o)) := (mkB_b _).2 o h0 h1
theorem lf_set (hof : 0 ≤ of ∧ of < 128) {S v : Int} (hS : 0 ≤ S ∧ S < 128) (hv : 0 ≤ v ∧ v < 7) : lfB of (ior S (ishl 1 v)) = clr (lfB of S) v := by
  have lb : 0 ≤ lfB of S ∧ lfB of S < 128 := (mkB_b _).1
  refine bit_ext (mkB_b _).1 (clr_bd lb hv) (fun o o0 o1 => ?_)
  rw [lf_bits o o0 o1, clr_bt lb hv ⟨o0, o1⟩]
  have e := lf_bits (of := of) (S := S) o o0 o1
  rw [e, set_ev hS hv, set_bit hS hv ⟨o0, o1⟩]
  by_cases q : o = v
  · simp [q]
  · simp [q]
theorem pow_b : ∀ n, n ≤ 7 → (2 : Int) ^ n ≤ 128 ∧ 1 ≤ (2 : Int) ^ n := by decide
theorem bit_pow : ∀ (n : Fin 8) (a : Fin 128), (∀ o : Fin 7, bit a.val o.val = true → o.val < n.val) ↔ (a.val : Int) < 2 ^ n.val := by decide +kernel
theorem bit_pw {a : Int} (hn : nv ≤ 7) (ha : 0 ≤ a ∧ a < 128) : (∀ o : Int, 0 ≤ o → o < 7 → bit a o = true → o < nv) ↔ a < 2 ^ nv := by
  have q := bit_pow ⟨nv, by omega⟩ ⟨a.toNat, by omega⟩
  dsimp only at q
  rw [show ((a.toNat : Nat) : Int) = a by omega] at q
  rw [← q]
  constructor
  · intro h o ob
    have := h o.val (by omega) (by omega) ob
    omega
  · intro h o o0 o1 ob
    have := h ⟨o.toNat, by omega⟩
    dsimp only at this
    rw [show ((o.toNat : Nat) : Int) = o by omega] at this
    have := this ob
    omega
/-- a set and one verb more -/
theorem moreBy_ev (hnv : nv ≤ 7) (hn : n ≤ 6) (hW : mwR s n nv wl) (hof : 0 ≤ of ∧ of < 128) (hob : ∀ o : Int, 0 ≤ o → o < 7 → bit of o = true → o < nv) (h1 : 0 ≤ one ∧ one < n) (h2 : 0 ≤ other ∧ other < n) {S : Int} (hS : 0 ≤ S ∧ S < 128) (hsub : iand S (ixor of (-1)) = 0) (hp : popF S ≤ 5) (hmo : moR s nv wl one other of S) {v : Int} (hv : 0 ≤ v ∧ v < nv) (hb : bit (lfB of S) v = true) :
    m_moreBy S v one other s = some ((if popF S % 2 = 0 then nfF nv wl (5 - popF S).toNat one other (lfB of S) v else - nfF nv wl (5 - popF S).toNat other one (lfB of S) v), s) := by
  have pb := pop_b hS
  have hb' := hb
  rw [lf_bits v hv.1 (by omega)] at hb'
  simp only [Bool.and_eq_true, Bool.not_eq_true'] at hb'
  obtain ⟨p1, p2⟩ := set_p hS (o := v) ⟨hv.1, by omega⟩ hb'.2
  have sb := set_b7 hS (o := v) ⟨hv.1, by omega⟩
  have hs' := (sub_ev hS hof).mp hsub
  have hsub2 : iand (ior S (ishl 1 v)) (ixor of (-1)) = 0 := by
    rw [sub_ev sb hof]
    intro o o0 o1 ob
    rw [set_ev hS ⟨hv.1, by omega⟩, set_bit hS ⟨hv.1, by omega⟩ ⟨o0, o1⟩] at ob
    simp only [Bool.or_eq_true, decide_eq_true_eq] at ob
    rcases ob with ob | ob
    · exact hs' o o0 o1 ob
    · rw [ob]; exact hb'.1
  have hlt : ior S (ishl 1 v) < 2 ^ nv := by
    rw [← bit_pw hnv sb]
    intro o o0 o1 ob
    exact hob o o0 o1 ((sub_ev sb hof).mp hsub2 o o0 o1 ob)
  have e63 := hmo _ p2 hlt
  unfold mvT at e63
  rw [if_pos hsub2] at e63
  unfold mvF at e63
  rw [p1, lf_set hof hS ⟨hv.1, by omega⟩, show (6 - (popF S + 1)).toNat = (5 - popF S).toNat by omega] at e63
  have iS : i32 (ior S (ishl 1 v)) = ior S (ishl 1 v) := i32_id (by omega) (by omega)
  have okS : ok 128 (ior S (ishl 1 v)) := by unfold ok; rw [iS]; omega
  have i7 : ∀ o : Int, 0 ≤ o → o < n → i32 (7 * o + v) = 7 * o + v ∧ ok 42 (7 * o + v) := fun o o0 o1 => by
    have e : i32 (7 * o + v) = 7 * o + v := i32_id (by omega) (by omega)
    exact ⟨e, by unfold ok; rw [e]; omega⟩
  unfold m_moreBy
  refine st_bind (bits_ev hS) ?_
  dsimp only
  rw [irem2 pb]
  by_cases ev : popF S % 2 = 0
  · rw [if_neg (by omega)] at e63
    rw [if_pos ev]
    obtain ⟨e1, e2⟩ := i7 one h1.1 h1.2
    refine st_t (by rw [ev]; exact i32_0) (st_gd e2 (st_gd okS ?_))
    rw [e1, iS, (hW one v h1.1 h1.2 hv.1 hv.2).1, e63]
    rfl
  · rw [if_pos (by omega)] at e63
    rw [if_neg ev]
    obtain ⟨e1, e2⟩ := i7 other h2.1 h2.2
    refine st_f (by rw [i32_id (by omega) (by omega)]; exact ev) (st_gd okS (st_gd e2 ?_))
    rw [e1, iS, (hW other v h2.1 h2.2 hv.1 hv.2).1, e63]
    unfold nfF
    congr 2
    omega
theorem best_go (hnv : nv ≤ 7) (hn : n ≤ 6) (h36 : s 36 3 = nv) (hW : mwR s n nv wl) (hof : 0 ≤ of ∧ of < 128) (hob : ∀ o : Int, 0 ≤ o → o < 7 → bit of o = true → o < nv) (h1 : 0 ≤ one ∧ one < n) (h2 : 0 ≤ other ∧ other < n) {S : Int} (hS : 0 ≤ S ∧ S < 128) (hsub : iand S (ixor of (-1)) = 0) (hp : popF S ≤ 5) (hmo : moR s nv wl one other of S) {nf : Int → Int} (hnf : nf = if popF S % 2 = 0 then nfF nv wl (5 - popF S).toNat one other (lfB of S) else nfF nv wl (5 - popF S).toNat other one (lfB of S)) : ∀ (k fuel : Nat) (b : Int), k ≤ nv → k < fuel → (b = -1 ∨ (0 ≤ b ∧ b < nv ∧ bit (lfB of S) b = true)) → m_bestTurn_L6 (fun (x5_45 : Int) (s46 : MS) => some (x5_45, s46)) fuel S of one other b ((nv : Int) - k) s = some (pkF nv (lfB of S) nf k b, s) := by
  have pb := pop_b hS
  have lb : 0 ≤ lfB of S ∧ lfB of S < 128 := (mkB_b _).1
  have lnv : ∀ o : Int, 0 ≤ o → o < 7 → bit (lfB of S) o = true → o < nv := fun o o0 o1 ob => by
    rw [lf_bits o o0 o1] at ob
    simp only [Bool.and_eq_true, Bool.not_eq_true'] at ob
    exact hob o o0 o1 ob.1
  have hbd : ∀ v : Int, 0 ≤ v ∧ v < nv → -7000000 ≤ nf v ∧ nf v ≤ 7000000 := fun v hv => by
    have r : ∀ o p : Int, (0 ≤ o ∧ o < n) → (0 ≤ p ∧ p < n) → -7000000 ≤ nfF nv wl (5 - popF S).toNat o p (lfB of S) v ∧ nfF nv wl (5 - popF S).toNat o p (lfB of S) v ≤ 7000000 := fun o p ho hp' => by
      unfold nfF
      have w := (hW o v ho.1 ho.2 hv.1 hv.2).2
      have r := chF_b hnv (fun o v a b c d => (hW o v a b c d).2) (5 - popF S).toNat p o (clr (lfB of S) v) hp' ho (clr_bd lb ⟨hv.1, by omega⟩) (fun q q0 q1 qb => by
        rw [clr_bt lb ⟨hv.1, by omega⟩ ⟨q0, q1⟩] at qb
        simp only [Bool.and_eq_true] at qb
        exact lnv q q0 q1 qb.1)
      unfold bd1 at w
      omega
    rw [hnf]
    split
    · exact r one other h1 h2
    · exact r other one h2 h1
  have hmb : ∀ v : Int, (0 ≤ v ∧ v < nv) → bit (lfB of S) v = true → m_moreBy S v one other s = some ((if popF S % 2 = 0 then nf v else - nf v), s) := fun v hv hb => by
    rw [moreBy_ev hnv hn hW hof hob h1 h2 hS hsub hp hmo hv hb, hnf]
    split <;> rfl
  intro k
  induction k with
  | zero =>
    intro fuel b hk hf hb
    obtain ⟨g, rfl⟩ : ∃ g, fuel = g + 1 := ⟨fuel - 1, by omega⟩
    rw [m_bestTurn_L6, pkF]
    refine st_bind (verbMany_ev h36) (st_t ?_ rfl)
    dsimp only
    rw [show (nv : Int) - ((0 : Nat) : Int) = nv by omega]
    exact Int.le_refl _
  | succ k ih =>
    intro fuel b hk hf hb
    obtain ⟨g, rfl⟩ : ∃ g, fuel = g + 1 := ⟨fuel - 1, by omega⟩
    obtain ⟨v, ev0⟩ : ∃ v : Int, (nv : Int) - ((k : Int) + 1) = v := ⟨_, rfl⟩
    have ev1 : (nv : Int) - ((k + 1 : Nat) : Int) = v := by omega
    have ev2 : v + 1 = (nv : Int) - (k : Int) := by omega
    have hv : 0 ≤ v ∧ v < nv := by omega
    have nle : ¬ i32 (nv : Int) ≤ i32 v := by rw [i32_id (by omega) (by omega), i32_id (by omega) (by omega)]; omega
    have ho := has_ev hof (o := v) (by omega)
    have hs := has_ev hS (o := v) (by omega)
    have hlb := lf_bits (of := of) (S := S) v hv.1 (by omega)
    rw [ev1, m_bestTurn_L6, pkF, ev0]
    cases q1 : bit of v with
    | false =>
      rw [q1] at ho hlb
      rw [if_neg (by rw [hlb]; simp)]
      have r := ih g b (by omega) (by omega) hb
      rw [← ev2] at r
      exact st_bind (verbMany_ev h36) (st_f nle (st_bnd (st_t (by rw [ho]; exact i32_0) (st_bnd r))))
    | true =>
      rw [q1] at ho hlb
      have no : ¬ i32 (iand (ishr of v) 1) = 0 := by rw [ho]; exact n10
      cases q2 : bit S v with
      | true =>
        rw [q2] at hs hlb
        rw [if_neg (by rw [hlb]; simp)]
        have r := ih g b (by omega) (by omega) hb
        rw [← ev2] at r
        exact st_bind (verbMany_ev h36) (st_f nle (st_bnd (st_f no (st_t (by rw [hs]; rfl) (st_bnd r)))))
      | false =>
        rw [q2] at hs hlb
        have hlt : bit (lfB of S) v = true := by rw [hlb]; rfl
        have ns : ¬ i32 (iand (ishr S v) 1) = i32 1 := by rw [hs]; decide
        rw [if_pos hlt]
        rcases hb with hb | ⟨b0, b1, b2⟩
        · rw [if_pos hb]
          have r := ih g v (by omega) (by omega) (Or.inr ⟨hv.1, hv.2, hlt⟩)
          rw [← ev2] at r
          exact st_bind (verbMany_ev h36) (st_f nle (st_bnd (st_f no (st_f ns (st_t (by rw [hb]) (st_bnd r))))))
        · rw [if_neg (by omega)]
          have nb : ¬ i32 b = i32 (-1) := by rw [i32_id (by omega) (by omega), show i32 (-1) = -1 by decide]; omega
          have m1 := hmb v hv hlt
          have m2 := hmb b ⟨b0, b1⟩ b2
          have hbv := hbd v hv
          have hbb := hbd b ⟨b0, b1⟩
          have r1 := ih g v (by omega) (by omega) (Or.inr ⟨hv.1, hv.2, hlt⟩)
          have r2 := ih g b (by omega) (by omega) (Or.inr ⟨b0, b1, b2⟩)
          rw [← ev2] at r1 r2
          by_cases ev : popF S % 2 = 0
          · rw [if_pos ev] at m1 m2
            have z : i32 (irem (popF S) 2) = 0 := by rw [irem2 pb, ev]; exact i32_0
            by_cases c : nf b < nf v
            · rw [if_pos c]
              exact st_bind (verbMany_ev h36) (st_f nle (st_bnd (st_f no (st_f ns (st_f nb (st_bind m1 (st_bnd (st_bind m2 (st_bnd (st_bind (bits_ev hS) (st_bnd (st_t z (st_f (by rw [i64_id (by omega) (by omega), i64_id (by omega) (by omega)]; omega) (st_bnd r1))))))))))))))
            · rw [if_neg c]
              exact st_bind (verbMany_ev h36) (st_f nle (st_bnd (st_f no (st_f ns (st_f nb (st_bind m1 (st_bnd (st_bind m2 (st_bnd (st_bind (bits_ev hS) (st_bnd (st_t z (st_t (by rw [i64_id (by omega) (by omega), i64_id (by omega) (by omega)]; omega) (st_bnd r2))))))))))))))
          · rw [if_neg ev] at m1 m2
            have z : ¬ i32 (irem (popF S) 2) = 0 := by rw [irem2 pb, i32_id (by omega) (by omega)]; exact ev
            by_cases c : nf b < nf v
            · rw [if_pos c]
              exact st_bind (verbMany_ev h36) (st_f nle (st_bnd (st_f no (st_f ns (st_f nb (st_bind m1 (st_bnd (st_bind m2 (st_bnd (st_bind (bits_ev hS) (st_bnd (st_f z (st_f (by rw [i64_id (by omega) (by omega), i64_id (by omega) (by omega)]; omega) (st_bnd r1))))))))))))))
            · rw [if_neg c]
              exact st_bind (verbMany_ev h36) (st_f nle (st_bnd (st_f no (st_f ns (st_f nb (st_bind m1 (st_bnd (st_bind m2 (st_bnd (st_bind (bits_ev hS) (st_bnd (st_f z (st_t (by rw [i64_id (by omega) (by omega), i64_id (by omega) (by omega)]; omega) (st_bnd r2))))))))))))))
end
