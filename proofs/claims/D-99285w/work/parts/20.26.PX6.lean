set_option maxRecDepth 100000
/-! LAYER 2: both read a part: all together -/
section
variable {T : Int → Int} {n : Int} {fl : Bool}
theorem Dd_pos (o : Int) : ∃ d, Dd o = d + 1 := ⟨_, rfl⟩
theorem WinR.up {X Y : Option RX} {τ τ1 : XS} {p p1 o : Int} {s s1 : MS} {C W rs : List Int} {b : Int} {k : Int → MS → Option (Int × MS)} {was : Int} {fi fo fi' : Nat} {c0 s0 : Int} (h : WinR T n fl X τ1 p1 o s1 C W rs b k was fi fo) (hXY : ∀ Z, X = some Z → Y = if Z.1 = 0 then some (0, Z.2.1, Z.2.2) else some (1, 0, Z.2.2)) (he : ext τ τ1) (hG : xG T n τ p) (hm : mEf k was fi' fo s = mEf k was fi fo s1) (ho : only pks s s1) (hr : rmo c0 s0 τ τ1) (hp : rn qB T n p + 1 ≤ p1) (hp2 : p1 ≤ n) (hc : c0 ≤ 10) (hs : s0 ≤ 10 + 2 * (p1 - rn qB T n p)) : AtomR T n fl Y τ p o s C W rs b k was fi' fo := by
  have hpb := hG.2.2.2.2.1
  have hle := rn_le (q := qB) (T := T) (n := n) p
  rcases h with ⟨cs, p', c, τ', s', fl', fo', x1, ⟨x2, x3, x4, x5⟩, x6, x7, ⟨y1, y2, y3⟩, x8, x9, x10⟩ | ⟨kd, pl, τ', s', x1, x2, x3, x4, x5, x6⟩
  · refine Or.inl ⟨cs, p', c, τ', s', fl', fo', ?_, ⟨he.tr x2, x3, x4, ?_⟩, by omega, ?_, ⟨hm.trans y1, ho.tr y2, y3⟩, by omega, x9, x10⟩
    · rw [hXY _ x1]; exact if_pos rfl
    · refine XV_more (fun y hy => ?_) _ _ _ x5
      unfold rg at *
      have := he.1.1
      omega
    · unfold rmo at *
      omega
  · refine Or.inr ⟨kd, pl, τ', s', ?_, x2.after he, ?_, hm.trans x4, ⟨ho.tr x5.1, x5.2⟩, x6⟩
    · rw [hXY _ x1]; exact if_neg n_10
    · unfold rmo at *
      omega
theorem atom_step {r : Int} (ih : AtomOK T n fl r) : AtomOK T n fl (r + 1) := by
  intro kx p pm o τ s C W rs b k was fi fo hr hpm hkx hG ho hcx hQ hs hrs hlo hb hl hfi hfo
  have ho6 := hQ.2.2.2.2.1
  have hp := hG.2.2.2.2.1
  have hn := hG.1.1
  have hle := rn_le (q := qB) (T := T) (n := n) p
  have hsk := sk_b hG
  have htk := tkf_b fl
  have hFU := FU_ge
  have hlen : (W ++ rs.reverse).length = W.length + rs.length := by simp
  have hal := hG.2.2.2.2.2.1
  have hN := hal.1
  obtain ⟨kx, rfl⟩ : ∃ g, kx = g + 1 := ⟨kx - 1, by omega⟩
  obtain ⟨fi, rfl⟩ : ∃ g, fi = g + 2 := ⟨fi - 2, by omega⟩
  obtain ⟨fo, rfl⟩ : ∃ g, fo = g + 1 := ⟨fo - 1, by omega⟩
  have hG1 := hG.to hsk
  have ho1 : ux τ 7 2 (rn qB T n p) 7 4 = o := by rw [ux_i _ _ _ _ (by decide)]; exact ho
  have hb0 := bA_b hG.1 (rn qB T n p)
  show AtomR T n fl (x2_atom_B (x2_atom kx) τ) τ p o s C W rs b k was (fi + 2) (fo + 1)
  by_cases c40 : bA T n (rn qB T n p) = 40
  · -- a bracket
    have hin := bA_at (T := T) (n := n) (p := rn qB T n p) (by omega)
    have hXY : ∀ Z, x2_within (x2_atom kx) 0 (ux τ 7 2 (rn qB T n p)) = some Z → x2_atom_B (x2_atom kx) τ = if Z.1 = 0 then some (0, Z.2.1, Z.2.2) else some (1, 0, Z.2.2) := by
      intro Z hZ
      unfold x2_atom_B
      exact st_bind (here_ev hG) (st_t (by rw [c40]) (st_bind hZ rfl))
    by_cases h6 : o = 6
    · obtain ⟨s', a1, a2⟩ := E_paren6 (k := k) (was := was) (fi := fi) (fo := fo) hQ (by omega) htk (by rw [hpm]; exact c40) h6
      rw [hpm] at a2
      obtain ⟨τ', x1, x2, x3⟩ := within_6 (rc := x2_atom kx) (a1 := 0) (o := o) hG1 (by rw [sk_sk]; exact c40) (by rw [ho1]; exact h6)
      rw [sk_sk] at x2
      refine Or.inr ⟨4, rn qB T n p, τ', s', ?_, x2.after (ext.rf.u7 (Or.inl rfl)), ?_, a1, a2, by omega, by omega⟩
      · rw [hXY _ x1]; exact if_neg n_10
      · unfold rmo; rw [x3, ux_cell (by decide)]; omega
    · obtain ⟨s1, a1, a2, a3⟩ := E_paren (k := k) (was := was) (fi := fi + 1) (fo := fo + 1) hQ htk (by rw [hlen]; omega) (by rw [hpm]; exact c40) (by omega)
      rw [hpm] at a3
      have hwo := within_open (rc := x2_atom kx) (a1 := 0) (o := o) hG1 (by rw [sk_sk]; exact c40) ho1 (by omega)
      rw [sk_sk, ux_ux] at hwo
      have hG3 := (hG1.opn (o + 1)).to (q := rn qB T n p + 1) (by omega)
      have he : ext τ (ux (ux (ux τ 7 2 (rn qB T n p)) 7 4 (o + 1)) 7 2 (rn qB T n p + 1)) := ((ext.rf.u7 (Or.inl rfl)).u7 (Or.inr (Or.inr rfl))).u7 (Or.inl rfl)
      have hw := within_rest ih kx (rn qB T n p + 1) o 0 20 (ux (ux (ux τ 7 2 (rn qB T n p)) 7 4 (o + 1)) 7 2 (rn qB T n p + 1)) s1 C W rs b k was (fi + 1) (fo + 1) (by omega) (by omega) (by omega) hG3 (by rw [ux_i _ _ _ _ (by decide), ux_s]) (by rw [ux_i _ _ _ _ (by decide), ux_i _ _ _ _ (by decide), ux_i _ _ _ _ (by decide)]; exact hcx) a3 hs hrs hlo hb (by omega) (by omega) (by omega) (Or.inl ⟨rfl, rfl⟩)
      rw [← hwo] at hw
      exact hw.up hXY he hG a1 a2 (c0 := 0) (s0 := 0) (by unfold rmo; rw [ux_cell (by decide), ux_cell (by decide), ux_cell (by decide)]; omega) (by omega) (by omega) (by omega) (by omega)
  · cases hd : qD (bA T n (rn qB T n p)) with
    | true =>
      have hw := wcA_D (tk := tkf fl) (T := T) (n := n) (q := rn qB T n p) hd
      obtain ⟨x1, x2⟩ := x_num (rc := x2_atom kx) hG hd
      by_cases h0 : (tkN T n p 0 9999).1 = 0
      · obtain ⟨τ', y1, y2, y3, y4, ⟨y5, y6⟩, y7, y8, y9⟩ := x1 h0
        obtain ⟨s', a1, a2, a3⟩ := E_num (k := k) (was := was) (fi := fi) (fo := fo + 1) hQ htk (by omega) (by rw [hpm]; exact c40) (by rw [hpm]; exact hw) (by rw [tkN_pm hpm]; exact h0) hs hrs hlo hb
        rw [tkN_pm hpm] at a3
        have hlt := tkN_ok h0
        have hp' := y3.2.2.2.2.1
        refine Or.inl ⟨[1000 + (tkN T n p 0 9999).2.1], _, τ (-1) 0, τ', s', FU, fo + 1, y1, ⟨y2, y3, by rw [y4]; exact ho, ?_⟩, hlt, ?_, ⟨a1, a2, a3⟩, by simp; omega, by omega, by omega⟩
        · obtain ⟨d, hd⟩ := Dd_pos o
          rw [hd]
          refine ⟨by unfold rg; omega, Or.inl ⟨y5, by rw [y6]; exact y9, by rw [y6]⟩⟩
        · unfold rmo; omega
      · obtain ⟨τ', y1, y2, y3, y4⟩ := x2 h0
        obtain ⟨s', a1, a2⟩ := E_numB (k := k) (was := was) (fi := fi) (fo := fo) hQ htk (by rw [hlen]; omega) (by rw [hpm]; exact c40) (by rw [hpm]; exact hw) (by rw [tkN_pm hpm]; exact h0)
        rw [tkN_pm hpm] at a2
        exact Or.inr ⟨_, _, τ', s', y1, y2, by unfold rmo; omega, a1, a2, tkN_kd h0⟩
    | false =>
      have hnd := tkN_nd (T := T) (n := n) (p := p) (lo := 0) (hi := 9999) hd
      have bad : wcA (tkf fl) T n (rn qB T n p) = -1 → ∃ s', mEf k was (fi + 2) (fo + 1) s = k was s' ∧ mBq 1 (rn qB T n p) s s' := by
        intro hw
        obtain ⟨s', a1, a2⟩ := E_numB (k := k) (was := was) (fi := fi) (fo := fo) hQ htk (by rw [hlen]; omega) (by rw [hpm]; exact c40) (by rw [hpm]; exact hw) (by rw [tkN_pm hpm, hnd]; exact n_10)
        rw [tkN_pm hpm, hnd] at a2
        exact ⟨s', a1, a2⟩
      by_cases c1 : qL (bA T n (rn qB T n p)) = true ∧ pd T n (rn qB T n p) = false
      · have hwc : wcA (tkf fl) T n (rn qB T n p) = wc (tkf fl) (wrd T n (rn qB T n p)) := by unfold wcA; rw [if_pos c1]
        have hr := rn_hi (q := qL) (T := T) qL_1 hsk.2
        have hr2 := rn_lt (q := qL) (T := T) (n := n) qL_1 c1.1
        obtain ⟨k1, k2, k3⟩ := word_cl fl (wrd T n (rn qB T n p))
        by_cases hA : fnd (wrd T n (rn qB T n p)) askW 0 ≠ -1 ∧ alw fl (fnd (wrd T n (rn qB T n p)) askW 0)
        · -- a part
          have hk := k2 hA
          have hab := alw_b hA.2
          obtain ⟨c, τ', y1, y2, y3, y4, y5, ⟨y6, y7⟩, y8⟩ := x_part (rc := x2_atom kx) hG hcx c1.1 c1.2 hA
          obtain ⟨s', a1, a2, a3⟩ := E_part (k := k) (was := was) (fi := fi) (fo := fo + 1) hQ htk (by omega) (by rw [hpm, hwc, hk]; exact hab) hs hrs hlo hb
          rw [hpm, hwc, hk] at a3
          refine Or.inl ⟨[40 + fnd (wrd T n (rn qB T n p)) askW 0], _, c, τ', s', FU, fo + 1, y1, ⟨y2, y3, by rw [y4]; exact ho, ?_⟩, hr2, ?_, ⟨a1, a2, a3⟩, by simp; omega, by omega, by omega⟩
          · obtain ⟨d, hd⟩ := Dd_pos o
            rw [hd]
            refine ⟨y5, Or.inr (Or.inl ⟨y6, by rw [y7]; exact hA.2, by rw [y7]⟩)⟩
          · unfold rmo at *; omega
        · obtain ⟨k4, k5⟩ := k3 hA
          obtain ⟨c, τ1, y1, y2, y3, y4, y5, y6, y7, y8, y9⟩ := x_oth (rc := x2_atom kx) hG hcx c1.1 c1.2 hA
          have hal1 := y5.2.2.2.2.2.1
          have hN1 := hal1.1
          have hS1 := hal1.2.1
          have ho1' : τ1 7 4 = o := by rw [y7]; exact ho
          by_cases hB : fl = true ∧ fnd (wrd T n (rn qB T n p)) lokW 0 ≠ -1
          · -- given, well
            obtain ⟨hk, hlb⟩ := k4 hB.1 hB.2
            generalize hl' : fnd (wrd T n (rn qB T n p)) lokW 0 = l at *
            by_cases h6 : o = 6
            · obtain ⟨s', a1, a2⟩ := E_of6 (k := k) (was := was) (fi := fi) (fo := fo) hQ (by omega) htk (by rw [hpm, hwc, hk]; omega) h6
              rw [hpm] at a2
              have op := opens_t (τ := τ1) (pl := rn qB T n p) (by rw [ho1']; exact h6)
              have hX : x2_looked (x2_atom kx) l τ1 = some (1, 0, ux (ux τ1 8 6 4) 8 7 (rn qB T n p)) := by
                unfold x2_looked
                refine st_bind (z := (1, 0, ux (ux τ1 8 6 4) 8 7 (rn qB T n p))) ?_ (st_f n_10 rfl)
                rw [y6]; exact op
              have := xJ_of (rc := x2_atom kx) y2 (by omega) y5 y8 hB.1 (by rw [hl']; exact hB.2) (by rw [hl']; exact hlb) (by rw [hl']; exact hX)
              refine Or.inr ⟨4, rn qB T n p, ux (ux τ1 8 6 4) 8 7 (rn qB T n p), s', ?_, xB.mk' y4 hal1 4 _, ?_, a1, a2, by omega, by omega⟩
              · rw [y1, this]; exact if_neg n_10
              · unfold rmo at *
                rw [u8_N, u8_N, u8_N, u8_N]
                omega
            · obtain ⟨s1, a1, a2, a3⟩ := E_of (k := k) (was := was) (fi := fi + 1) (fo := fo + 1) hQ htk (by rw [hlen]; omega) (by rw [hpm, hwc, hk]; omega) (by omega)
              rw [hpm, hwc, hk, show 51 + (9 + l) = 60 + l by omega] at a3
              have op := opens_f (τ := τ1) (pl := rn qB T n p) (by rw [ho1']; omega)
              rw [ho1'] at op
              have hG4 := y5.opn (o + 1)
              have hal4 := hG4.2.2.2.2.2.1
              have e4 : ux τ1 7 4 (o + 1) (-1) = τ1 (-1) := ux_cell (by decide)
              obtain ⟨τ5, n1, n2, n3, n4, n5, n6, n7, n8⟩ := newOb_ev (τ0 := τ1) hal4 (ext.rf.u7 (Or.inr (Or.inr rfl))) 18 3 (by omega)
              rw [e4] at n4 n5 n6 n7
              have n77 : τ5 7 = ux τ1 7 4 (o + 1) 7 := n7 7 (by omega) (by omega)
              have hG5 : xG T n τ5 (rn qL T n (rn qB T n p)) := hG4.of n8 n2 (by rw [n77]; exact hG4.2.2.2.1) y5.2.2.2.2.1
              have hle2 := rn_le (q := qB) (T := T) (n := n) (rn qL T n (rn qB T n p))
              have hat := ih kx (rn qL T n (rn qB T n p)) (rn qL T n (rn qB T n p)) (o + 1) τ5 s1 C W ((60 + l) :: rs) b k was (fi + 1) (fo + 1) (by omega) rfl (by omega) hG5 (by rw [n77, ux_s]) (by rw [n77, ux_i _ _ _ _ (by decide)]; exact y8) (by rw [List.reverse_cons, ← List.append_assoc]; exact a3) hs (by
                intro y hy
                rcases List.mem_cons.mp hy with rfl | hy
                · omega
                · exact hrs y hy) (by rw [List.length_cons]; omega) hb (by rw [List.length_cons]; omega) (by omega) (by omega)
              have hXl : ∀ Z, x2_atom kx τ5 = some Z → ∀ R, (if Z.1 = 0 then Option.bind (x21_init true (τ1 (-1) 0) 0 l Z.2.1 Z.2.2) (fun z8 => bnd (ux z8.2 7 4 ((z8.2 7 4) - 1)) fun s10 => some (0, τ1 (-1) 0, s10)) else some (1, 0, Z.2.2)) = R → x2_looked (x2_atom kx) l τ1 = R := by
                intro Z hZ R hR
                unfold x2_looked
                have nn : 0 ≤ ux τ1 7 4 (o + 1) (-1) 0 ∧ 0 ≤ ux τ1 7 4 (o + 1) (-1) 1 := by rw [e4]; omega
                refine st_bind (z := (0, 0, ux τ1 7 4 (o + 1))) (by rw [y6]; exact op) (st_t rfl (st_gd nn (st_bnd ?_)))
                rw [show nwx ((0, 0, ux τ1 7 4 (o + 1)) : RX).2.2 18 0 3 (dfl 18) = τ5 from n1]
                rw [show ((0, 0, ux τ1 7 4 (o + 1)) : RX).2.2 (-1) = τ1 (-1) from e4]
                exact st_bind hZ hR
              rcases hat with ⟨cs, p', x, τ6, s2, fl', fo', x1, ⟨x2, x3, x4, x5⟩, x6, x7, ⟨z1, z2, z3⟩, x8, x9, x10⟩ | ⟨kd, pl, τ6, s2, x1, x2, x3, x4, x5, x6⟩
              · have xr := XV_dyn x5
                unfold rg at xr
                rw [n5] at xr
                have e6 : τ6 (τ1 (-1) 0) = τ5 (τ1 (-1) 0) := x2.2.2.1 _ (by omega) (by omega) (by omega) (by omega)
                have t6 : τ6 (τ1 (-1) 0) (-1) = 18 := by rw [e6]; exact n4
                have g0 := tgf (τ := τ6) (t := 18) (new_fre hN1) t6
                have g1 := tgf (τ := ux τ6 (τ1 (-1) 0) 2 0) (t := 18) (new_fre hN1) (by rw [ux_i _ _ _ _ (by decide)]; exact t6)
                have g2 := tgf (τ := ux (ux τ6 (τ1 (-1) 0) 2 0) (τ1 (-1) 0) 0 l) (t := 18) (new_fre hN1) (by rw [ux_i _ _ _ _ (by decide), ux_i _ _ _ _ (by decide)]; exact t6)
                obtain ⟨τ7, e7⟩ : ∃ t, ux (ux (ux τ6 (τ1 (-1) 0) 2 0) (τ1 (-1) 0) 0 l) (τ1 (-1) 0) 1 x = t := ⟨_, rfl⟩
                have hi : x21_init true (τ1 (-1) 0) 0 l x τ6 = some (0, τ7) := by
                  unfold x21_init x16_init
                  simp (disch := omega) only [gd_t, gd_T, gd_ok, not_false_eq_true, eq_self, bnd_r, bind_s, ite_t, ite_n, ite_T, ite_F, i32_id, g0, g1, g2, fre_nf (new_fre (show 1514 ≤ x by omega)), e7]
                have f7 : ∀ y, y ≠ τ1 (-1) 0 → τ7 y = τ6 y := fun y hy => by rw [← e7, ux_cell hy, ux_cell hy, ux_cell hy]
                have al7 : al τ7 := by rw [← e7]; exact ((x3.2.2.2.2.2.1.u (by omega) (by omega)).u (by omega) (by omega)).u (by omega) (by omega)
                have hNle := y4.1.1
                have he7 : ext τ τ7 := by
                  have h1 : ext τ τ6 := (y4.tr n3).tr x2
                  rw [← e7]; exact ((h1.un hNle hN1).un hNle hN1).un hNle hN1
                have h77 : τ7 7 = τ6 7 := f7 _ (by omega)
                have hN7 : ux τ7 7 4 o (-1) = τ6 (-1) := by rw [ux_cell (by decide), f7 _ (by omega)]
                have hG7 : xG T n τ7 p' := hG.of he7 al7 (by rw [h77]; exact x3.2.2.2.1) x3.2.2.2.2.1
                have hX : x2_looked (x2_atom kx) l τ1 = some (0, τ1 (-1) 0, ux τ7 7 4 o) := by
                  refine hXl _ x1 _ (st_t rfl (st_bind hi (st_bnd ?_)))
                  show some (0, τ1 (-1) 0, ux τ7 7 4 (τ7 7 4 - 1)) = _
                  rw [h77, x4, show o + 1 - 1 = o by omega]
                have := xJ_of (rc := x2_atom kx) y2 (by omega) y5 y8 hB.1 (by rw [hl']; exact hB.2) (by rw [hl']; exact hlb) (by rw [hl']; exact hX)
                refine Or.inl ⟨cs ++ [60 + l], p', τ1 (-1) 0, ux τ7 7 4 o, s2, fl', fo', ?_, ⟨he7.u7 (Or.inr (Or.inr rfl)), hG7.opn o, by rw [ux_s], ?_⟩, by omega, ?_, ⟨a1.trans z1, a2.tr z2, ?_⟩, by simp; omega, x9, x10⟩
                · rw [y1, this]; exact if_pos rfl
                · rw [hN7]
                  have hcell : ∀ y, 1514 ≤ y → ux τ7 7 4 o y = τ7 y := fun y hy => ux_cell (by omega)
                  have hdd : Dd o = Dd (o + 1) + 1 + 1 + 1 := by unfold Dd; omega
                  rw [hdd]
                  refine XV_mono _ _ _ (XV_mono _ _ _ ⟨by unfold rg; omega, Or.inr (Or.inr (Or.inr (Or.inl ?_)))⟩)
                  rw [hcell _ hN1]
                  have p0 : τ7 (τ1 (-1) 0) 0 = l := by rw [← e7, ux_i _ _ _ _ (by decide), ux_s]
                  have p1 : τ7 (τ1 (-1) 0) 1 = x := by rw [← e7, ux_s]
                  have p2 : τ7 (τ1 (-1) 0) 2 = 0 := by rw [← e7, ux_i _ _ _ _ (by decide), ux_i _ _ _ _ (by decide), ux_s]
                  have p3 : τ7 (τ1 (-1) 0) (-1) = 18 := by rw [← e7, ux_i _ _ _ _ (by decide), ux_i _ _ _ _ (by decide), ux_i _ _ _ _ (by decide)]; exact t6
                  rw [p0, p1, p2]
                  refine ⟨p3, hB.1, rfl, by omega, cs, ?_, rfl⟩
                  refine XV_more (fun y hy => ?_) _ _ _ (XV_kept (fun y hy => ?_) _ _ _ x5)
                  · unfold rg at *; omega
                  · unfold rg at hy
                    rw [n5] at hy
                    rw [hcell y (by omega), f7 y (by omega)]
                · unfold rmo at *
                  rw [hN7]
                  omega
                · rw [List.length_cons] at z3
                  rw [show o + 1 - ((rs.length + 1 : Nat) : Int) = o - rs.length by omega] at z3
                  simpa [List.append_assoc] using z3
              · have hX := hXl _ x1 _ (st_f n_10 rfl)
                have := xJ_of (rc := x2_atom kx) y2 (by omega) y5 y8 hB.1 (by rw [hl']; exact hB.2) (by rw [hl']; exact hlb) (by rw [hl']; exact hX)
                refine Or.inr ⟨kd, pl, τ6, s2, ?_, x2.after (y4.tr n3), ?_, a1.trans x4, ⟨a2.tr x5.1, x5.2⟩, x6⟩
                · rw [y1, this]; exact if_neg n_10
                · unfold rmo at *
                  omega
          · obtain ⟨k6, k7, k8⟩ := k5 hB
            obtain ⟨j1, j2, j3⟩ := xJ_go (rc := x2_atom kx) y2 (by omega) y5 y8 hB
            -- min and max alike
            have mm : ∀ a1 : Int, (a1 = 1 ∨ a1 = 2) → wc (tkf fl) (wrd T n (rn qB T n p)) = 10 + a1 → (∀ X, x2_within (x2_atom kx) a1 τ1 = some X → xJ (x2_atom kx) c τ1 = if X.1 = 0 then some (0, X.2.1, X.2.2) else some (1, 0, X.2.2)) → AtomR T n fl (x2_atom_B (x2_atom kx) τ) τ p o s C W rs b k was (fi + 2) (fo + 1) := by
              intro a1 ha1 hw hJ
              have hle2 := rn_le (q := qB) (T := T) (n := n) (rn qL T n (rn qB T n p))
              have hsk2 := sk_b y5
              by_cases hc : bA T n (rn qB T n (rn qL T n (rn qB T n p))) = 40
              · have hin := bA_at (T := T) (n := n) (p := rn qB T n (rn qL T n (rn qB T n p))) (by omega)
                by_cases h6 : o = 6
                · obtain ⟨s', a1', a2⟩ := E_min6 (k := k) (was := was) (fi := fi) (fo := fo) hQ (by omega) htk (by rw [hpm, hwc, hw]; omega) (by rw [hpm]; exact hc) h6
                  rw [hpm] at a2
                  obtain ⟨τ', x1, x2, x3⟩ := within_6 (rc := x2_atom kx) (a1 := a1) (o := o) y5 hc (by rw [ho1']; exact h6)
                  refine Or.inr ⟨4, _, τ', s', ?_, x2.after y4, ?_, a1', a2, by omega, by omega⟩
                  · rw [y1, hJ _ x1]; exact if_neg n_10
                  · unfold rmo at *; rw [x3]; omega
                · obtain ⟨s1, a1', a2, a3⟩ := E_min (k := k) (was := was) (fi := fi + 1) (fo := fo + 1) hQ htk (by rw [hlen]; omega) (by rw [hpm, hwc, hw]; omega) (by rw [hpm]; exact hc) (by omega)
                  rw [hpm, hwc, hw] at a3
                  have hwo := within_open (rc := x2_atom kx) (a1 := a1) (o := o) y5 hc ho1' (by omega)
                  have hG3 := ((y5.to hsk2).opn (o + 1)).to (q := rn qB T n (rn qL T n (rn qB T n p)) + 1) (by omega)
                  have he : ext τ (ux (ux (ux τ1 7 2 (rn qB T n (rn qL T n (rn qB T n p)))) 7 4 (o + 1)) 7 2 (rn qB T n (rn qL T n (rn qB T n p)) + 1)) := ((y4.u7 (Or.inl rfl)).u7 (Or.inr (Or.inr rfl))).u7 (Or.inl rfl)
                  have hwr := within_rest ih kx (rn qB T n (rn qL T n (rn qB T n p)) + 1) o a1 (10 + a1 + 10) (ux (ux (ux τ1 7 2 (rn qB T n (rn qL T n (rn qB T n p)))) 7 4 (o + 1)) 7 2 (rn qB T n (rn qL T n (rn qB T n p)) + 1)) s1 C W rs b k was (fi + 1) (fo + 1) (by omega) (by omega) (by omega) hG3 (by rw [ux_i _ _ _ _ (by decide), ux_s]) (by rw [ux_i _ _ _ _ (by decide), ux_i _ _ _ _ (by decide), ux_i _ _ _ _ (by decide)]; exact y8) a3 hs hrs hlo hb (by omega) (by omega) (by omega) (by omega)
                  rw [← hwo] at hwr
                  refine hwr.up (fun Z hZ => ?_) he hG a1' a2 (c0 := 3) (s0 := 4 + 2 * (rn qL T n (rn qB T n p) - rn qB T n p)) ?_ (by omega) (by omega) (by omega) (by omega)
                  · rw [y1]; exact hJ Z hZ
                  · unfold rmo at *
                    rw [ux_cell (by decide), ux_cell (by decide), ux_cell (by decide)]
                    exact y9
              · obtain ⟨s', a1', a2⟩ := E_minN (k := k) (was := was) (fi := fi) (fo := fo) hQ (by omega) htk (by rw [hpm, hwc, hw]; omega) (by rw [hpm]; exact hc)
                rw [hpm] at a2
                obtain ⟨τ', x1, x2, x3⟩ := within_no (rc := x2_atom kx) (a1 := a1) y5 hc
                refine Or.inr ⟨1, _, τ', s', ?_, x2.after y4, ?_, a1', a2, by omega, by omega⟩
                · rw [y1, hJ _ x1]; exact if_neg n_10
                · unfold rmo at *; rw [x3]; omega
            by_cases h83 : wrd T n (rn qB T n p) = wo 83
            · exact mm 1 (Or.inl rfl) (k6 h83) (j1 h83)
            · by_cases h84 : wrd T n (rn qB T n p) = wo 84
              · exact mm 2 (Or.inr rfl) (k7 h84) (j2 h84)
              · have hj := j3 h83 h84
                rw [y6] at hj
                obtain ⟨s', a1, a2⟩ := bad (by rw [hwc]; exact k8 h83 h84)
                refine Or.inr ⟨1, rn qB T n p, _, s', by rw [y1]; exact hj, xB.mk' y4 hal1 1 _, ?_, a1, a2, by omega, by omega⟩
                unfold rmo at *
                rw [u8_N, u8_N, u8_N, u8_N]
                omega
      · obtain ⟨s', a1, a2⟩ := bad (by unfold wcA; rw [if_neg c1])
        have hh := here_ev hG1
        rw [sk_sk, ux_ux] at hh
        have hdl := isDigit_ev (ux τ 7 2 (rn qB T n p)) hb0
        rw [hd, b2i_0] at hdl
        have c40' : ¬ i32 (bA T n (rn qB T n p)) = i32 40 := ne32 (by omega) (by omega) c40
        obtain ⟨τ', w1, w2, w3⟩ := word_bad hG1 (by rw [sk_sk]; exact c1)
        rw [sk_sk] at w2
        refine Or.inr ⟨1, rn qB T n p, τ', s', ?_, w2.after (ext.rf.u7 (Or.inl rfl)), ?_, a1, a2, by omega, by omega⟩
        · unfold x2_atom_B
          exact st_bind (here_ev hG) (st_f c40' (st_bind hh (st_bind hdl (st_t i32_0 (st_bind w1 (st_f n_10 rfl))))))
        · unfold rmo at *
          rw [u7_N, u7_N] at w3
          omega
theorem atom_all (T : Int → Int) (n : Int) (fl : Bool) : ∀ m : Nat, AtomOK T n fl ((m : Int) - 1)
  | 0 => fun kx p pm o τ s C W rs b k was fi fo hr _ _ hG => by
    have hp := hG.2.2.2.2.1
    simp at hr
    omega
  | m + 1 => by
    have := atom_step (atom_all T n fl m)
    rw [show ((m : Int) - 1 + 1) = ((m + 1 : Nat) : Int) - 1 by omega] at this
    exact this
end
