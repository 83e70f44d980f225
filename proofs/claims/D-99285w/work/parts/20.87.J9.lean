set_option maxRecDepth 100000
/-! LAYER 2: verbs chosen in turn: both -/
section
variable {s s' : MS} {n nv : Nat} {of one other : Int} {cn : Int → Int → Bool} {wl : Int → Int → Int}
theorem bestTurn_ev (hnv : nv ≤ 7) (hn : n ≤ 6) (h36 : s 36 3 = nv) (hW : mwR s n nv wl) (hof : 0 ≤ of ∧ of < 128) (hob : ∀ o : Int, 0 ≤ o → o < 7 → bit of o = true → o < nv) (h1 : 0 ≤ one ∧ one < n) (h2 : 0 ≤ other ∧ other < n) {S : Int} (hS : 0 ≤ S ∧ S < 128) (hsub : iand S (ixor of (-1)) = 0) (hp : popF S ≤ 5) (hmo : moR s nv wl one other of S) {nf : Int → Int} (hnf : nf = if popF S % 2 = 0 then nfF nv wl (5 - popF S).toNat one other (lfB of S) else nfF nv wl (5 - popF S).toNat other one (lfB of S)) : m_bestTurn S of one other s = some (pkF nv (lfB of S) nf nv (-1), s) := by
  unfold m_bestTurn
  have q := best_go hnv hn h36 hW hof hob h1 h2 hS hsub hp hmo hnf nv FU (-1) (Nat.le_refl _) (by have := FU_ge; omega) (Or.inl rfl)
  rw [Int.sub_self] at q
  exact st_bnd (st_bnd q)
theorem lf_zero (hof : 0 ≤ of ∧ of < 128) {S : Int} (hS : 0 ≤ S ∧ S < 128) (hsub : iand S (ixor of (-1)) = 0) : lfB of S = 0 ↔ S = of := by
  have hs := (sub_ev hS hof).mp hsub
  have z : ∀ o : Int, 0 ≤ o → o < 7 → bit 0 o = false := fun o o0 o1 => by
    have : ∀ o : Fin 7, bit 0 o.val = false := by decide
    have := this ⟨o.toNat, by omega⟩
    dsimp only at this
    rw [show ((o.toNat : Nat) : Int) = o by omega] at this
    exact this
  constructor
  · intro h
    refine bit_ext hS hof (fun o o0 o1 => ?_)
    have e := lf_bits (of := of) (S := S) o o0 o1
    rw [h, z o o0 o1] at e
    cases q : bit S o with
    | true => rw [hs o o0 o1 q]
    | false =>
      rw [q] at e
      cases q2 : bit of o with
      | false => rfl
      | true => rw [q2] at e; cases e
  · intro h
    refine bit_ext (mkB_b _).1 (by omega) (fun o o0 o1 => ?_)
    rw [lf_bits o o0 o1, z o o0 o1, h]
    cases bit of o <;> rfl
theorem dp_go (hnv : nv ≤ 7) (hn : n ≤ 6) (hof : 0 ≤ of ∧ of < 128) (hob : ∀ o : Int, 0 ≤ o → o < 7 → bit of o = true → o < nv) (h1 : 0 ≤ one ∧ one < n) (h2 : 0 ≤ other ∧ other < n) (c : Int) (K : Int → Int → Int → Int → MS → Option (Int × MS)) : ∀ (d fuel : Nat) (S : Int) (s : MS), S + 1 = d → S < 2 ^ nv → s 36 3 = nv → mwR s n nv wl → moR s nv wl one other of S → d < fuel →
    ∃ s', m_choose_L55 K fuel one other c of S s = K one other c of s' ∧ only [63] s s' ∧ moR s' nv wl one other of (-1) := by
  have pw := pow_b nv hnv
  intro d
  induction d with
  | zero =>
    intro fuel S s hS hS2 h36 hW hmo hf
    obtain ⟨g, rfl⟩ : ∃ g, fuel = g + 1 := ⟨fuel - 1, by omega⟩
    have e : S = -1 := by omega
    refine ⟨s, ?_, only.rf, by rw [← e]; exact hmo⟩
    rw [m_choose_L55]
    exact st_t (by rw [e]; decide) rfl
  | succ d ih =>
    intro fuel S s hS hS2 h36 hW hmo hf
    obtain ⟨g, rfl⟩ : ∃ g, fuel = g + 1 := ⟨fuel - 1, by omega⟩
    have Sb : 0 ≤ S ∧ S < 128 := by omega
    have iS : i32 S = S := i32_id (by omega) (by omega)
    have okS : ok 128 S := by unfold ok; rw [iS]; omega
    have nlt : ¬ i32 S < 0 := by rw [iS]; omega
    have pb := pop_b Sb
    have ipS : i32 (popF S) = popF S := i32_id (by omega) (by omega)
    have i6 : i32 6 = 6 := by decide
    obtain ⟨s1, e1⟩ : ∃ s1, up s 63 S 0 = s1 := ⟨_, rfl⟩
    have e1' : up s 63 (i32 S) 0 = s1 := by rw [iS]; exact e1
    have o1 : only [63] s s1 := by rw [← e1]; exact only.up (by decide)
    have go : ∀ (s2 : MS) (x : Int), only [63] s s2 → (∀ T : Int, T ≠ S → s2 63 T = s 63 T) → s2 63 S = x → x = mvT nv wl one other of S → ∃ s', m_choose_L55 K g one other c of (S + (-1)) s2 = K one other c of s' ∧ only [63] s s' ∧ moR s' nv wl one other of (-1) := fun s2 x o2 k2 k3 k4 => by
      obtain ⟨s', a1, a2, a3⟩ := ih g (S + (-1)) s2 (by omega) (by omega) (by rw [o2 36 (by decide)]; exact h36) (fun o v q1 q2 q3 q4 => by rw [o2 51 (by decide)]; exact hW o v q1 q2 q3 q4) (fun T t0 t1 => by
        by_cases e : T = S
        · rw [e, k3, k4]
        · rw [k2 T e]; exact hmo T (by omega) t1) (by omega)
      exact ⟨s', a1, o2.tr a2, a3⟩
    have k1 : ∀ T : Int, T ≠ S → s1 63 T = s 63 T := fun T e => by rw [← e1, up_i _ _ _ _ e]
    have k1S : s1 63 S = 0 := by rw [← e1, up_s]
    rw [m_choose_L55]
    by_cases hsub : iand S (ixor of (-1)) = 0
    · have zs : i32 (iand S (ixor of (-1))) = 0 := by rw [hsub]; exact i32_0
      by_cases hp : 6 ≤ popF S
      · obtain ⟨s', a1, a2, a3⟩ := go s1 0 o1 k1 k1S (by
          unfold mvT mvF
          rw [if_pos hsub, show (6 - popF S).toNat = 0 by omega, chF]
          split <;> rfl)
        exact ⟨s', st_f nlt (st_gd okS (st_be e1' (st_bnd (st_t zs (st_bind (bits_ev Sb) (st_t (by dsimp only; rw [ipS, i6]; exact hp) (st_bnd a1))))))), a2, a3⟩
      · have np : ¬ i32 6 ≤ i32 (popF S) := by rw [ipS, i6]; exact hp
        by_cases he : S = of
        · obtain ⟨s', a1, a2, a3⟩ := go s1 0 o1 k1 k1S (by
            unfold mvT mvF
            rw [if_pos hsub, (lf_zero hof Sb hsub).mpr he, chF_0, chF_0]
            split <;> rfl)
          exact ⟨s', st_f nlt (st_gd okS (st_be e1' (st_bnd (st_t zs (st_bind (bits_ev Sb) (st_f np (st_t (by rw [he]) (st_bnd a1)))))))), a2, a3⟩
        · have ne : ¬ i32 S = i32 of := by rw [iS, i32_id (by omega) (by omega)]; exact he
          have hl0 : ¬ lfB of S = 0 := fun q => he ((lf_zero hof Sb hsub).mp q)
          have hmo1 : moR s1 nv wl one other of S := fun T t0 t1 => by rw [k1 T (by omega)]; exact hmo T t0 t1
          have hW1 : mwR s1 n nv wl := fun o v q1 q2 q3 q4 => by rw [o1 51 (by decide)]; exact hW o v q1 q2 q3 q4
          have h361 : s1 36 3 = nv := by rw [o1 36 (by decide)]; exact h36
          obtain ⟨nf, hnf⟩ : ∃ nf, nf = if popF S % 2 = 0 then nfF nv wl (5 - popF S).toNat one other (lfB of S) else nfF nv wl (5 - popF S).toNat other one (lfB of S) := ⟨_, rfl⟩
          have bt := bestTurn_ev hnv hn h361 hW1 hof hob h1 h2 Sb hsub (by omega) hmo1 hnf
          have lb : 0 ≤ lfB of S ∧ lfB of S < 128 := (mkB_b _).1
          have lnv : ∀ o : Int, 0 ≤ o → o < 7 → bit (lfB of S) o = true → o < nv := fun o o0 o1 ob => by
            rw [lf_bits o o0 o1] at ob
            simp only [Bool.and_eq_true, Bool.not_eq_true'] at ob
            exact hob o o0 o1 ob.1
          have ny := pk_some lb hl0 lnv nf
          rcases pkF_b (nv := nv) (left := lfB of S) (nf := nf) nv (-1) (Nat.le_refl _) (Or.inl rfl) with q | ⟨q1, q2, q3⟩
          · exact absurd q ny
          have mb := moreBy_ev hnv hn hW1 hof hob h1 h2 Sb hsub (by omega) hmo1 ⟨q1, q2⟩ q3
          have ex : (if popF S % 2 = 0 then nfF nv wl (5 - popF S).toNat one other (lfB of S) (pkF nv (lfB of S) nf nv (-1)) else - nfF nv wl (5 - popF S).toNat other one (lfB of S) (pkF nv (lfB of S) nf nv (-1))) = mvT nv wl one other of S := by
            unfold mvT mvF
            rw [if_pos hsub, show (6 - popF S).toNat = (5 - popF S).toNat + 1 by omega, chF_s hl0, chF_s hl0]
            by_cases ev : popF S % 2 = 0
            · rw [if_pos ev] at hnf
              rw [if_pos ev, if_pos ev, hnf]
            · rw [if_neg ev] at hnf
              rw [if_neg ev, if_neg ev, hnf]
          obtain ⟨s2, e2⟩ : ∃ s2, up s1 63 S (mvT nv wl one other of S) = s2 := ⟨_, rfl⟩
          obtain ⟨s', a1, a2, a3⟩ := go s2 _ (o1.tr (by rw [← e2]; exact only.up (by decide))) (fun T e => by rw [← e2, up_i _ _ _ _ e]; exact k1 T e) (by rw [← e2, up_s]) rfl
          refine ⟨s', st_f nlt (st_gd okS (st_be e1' (st_bnd (st_t zs (st_bind (bits_ev Sb) (st_f np (st_f ne (st_bind bt (st_bind mb (st_gd okS (st_be (e' := s2) ?_ (st_bnd a1)))))))))))), a2, a3⟩
          dsimp only
          rw [iS, ex]; exact e2
    · obtain ⟨s', a1, a2, a3⟩ := go s1 0 o1 k1 k1S (by unfold mvT; rw [if_neg hsub])
      refine ⟨s', st_f nlt (st_gd okS (st_be e1' (st_bnd (st_f ?_ (st_bnd a1))))), a2, a3⟩
      intro q
      refine hsub ?_
      have hr : ∀ (a b : Fin 128), 0 ≤ iand a.val (ixor b.val (-1)) ∧ iand a.val (ixor b.val (-1)) < 128 := by decide +kernel
      have r := hr ⟨S.toNat, by omega⟩ ⟨of.toNat, by omega⟩
      dsimp only at r
      rw [show ((S.toNat : Nat) : Int) = S by omega, show ((of.toNat : Nat) : Int) = of by omega] at r
      rw [i32_id (by omega) (by omega)] at q
      exact q
end
section
variable {τ τ' : XS} {s s' : MS} {N : Int} {es fs : List Int} {ws vs : List (List Int)} {a b c : Int}
theorem CLs.choose (h : INV τ s N es fs ws vs) (ha : rgI a) (hb : rgI b) (hc : rgI c) : CL τ s (x0_choose a b c τ) (m_choose a b c s) := by
  have hn := h.le
  obtain ⟨-, ⟨l1, l2, -⟩, -⟩ := h.2.2.2.2.1.1
  obtain ⟨k1, k2⟩ := skV_b (nv := vs.length) (by omega) l1
  have xc := is2_ev (b := 0) (c := 1) τ hc ⟨by decide, by decide⟩ ⟨by decide, by decide⟩
  have mc : m_isIn (i32 c) 0 1 s = some (b2i (decide (0 ≤ c ∧ c ≤ 1)), s) := by rw [hc.e]; exact isIn2_ev s hc ⟨by decide, by decide⟩ ⟨by decide, by decide⟩
  unfold x0_choose m_choose
  by_cases c1 : 0 ≤ a ∧ a < ws.length
  · by_cases c2 : 0 ≤ b ∧ b < ws.length
    · by_cases c3 : a = b
      · have e : i32 a = i32 b := by rw [c3]
        exact h.same (st_bind (isSay_x h ha) (st_f (z1b c1) (st_bind (isSay_x h hb) (st_f (z1b c2) (st_t e rfl))))) (st_bind (isSay_m h ha) (st_f (z1b c1) (st_bind (isSay_m h hb) (st_f (z1b c2) (st_t e rfl)))))
      · have ne : ¬ i32 a = i32 b := by rw [ha.e, hb.e]; exact c3
        by_cases c4 : 0 ≤ c ∧ c ≤ 1
        · obtain ⟨t1, a1, a2, -, -, a5⟩ := by_x h.rl
          obtain ⟨of, eof⟩ : ∃ of, skV vs.length (τ 36 1) = of := ⟨_, rfl⟩
          rw [eof] at k1 k2
          have hob : ∀ o : Int, 0 ≤ o → o < 7 → bit of o = true → o < vs.length := fun o o0 o1 ob => by
            rw [k2 o o0 o1] at ob
            simp only [Bool.and_eq_true, decide_eq_true_eq] at ob
            exact ob.1
          obtain ⟨t2, e2⟩ : ∃ t2, ux t1 35 0 (-1) = t2 := ⟨_, rfl⟩
          have on2 : onx [35] t1 t2 := by rw [← e2]; exact onx.up (by decide)
          have L2 : lox τ t2 := by rw [← e2]; exact a2.ux (by omega)
          have h2 := h.rl.lx L2 stn.rf rfl
          have sk := sack_x h2
          rw [L2 36 (by omega), eof] at sk
          obtain ⟨t3, x1, x2, x3⟩ := x_ch0 (τ := t2) (cn := cnX 36 τ) (wl := wlX 36 τ) hn.1 hn.2.1 h2.2.1.cty (a5.kept hn.1 (on2.mono (by simp))) (one := a) (other := b) (by rw [← e2, ux_s]) c1 c2 k1 hob
          have L3 : lox τ t3 := L2.tr (lox.of x2 (by simp))
          obtain ⟨s1, b1, b2, b3, b4⟩ := lays_ev h.rl
          have h11 : RLc τ s1 N 36 es fs ws vs := h.rl.lx lox.rf (stn.of b2 (by decide)) (b2 48 (by decide))
          have skm := sack_m h11
          rw [eof] at skm
          obtain ⟨fe, -⟩ := full_ev vs.length hn.2.1
          have pw := pow_b vs.length hn.2.1
          obtain ⟨s2, d1, d2, d3⟩ := dp_go (n := ws.length) (nv := vs.length) (of := of) (one := a) (other := b) (wl := wlX 36 τ) hn.2.1 hn.1 k1 hob c1 c2 c (fun (x1_46 : Int) (x2_47 : Int) (x3_48 : Int) (x4_49 : Int) (s50 : MS) =>
              if i32 x3_48 = 0 then
                gd (ok 128 0) <|
                some ((s50 63 (i32 0)), s50)
              else
                Option.bind (m_bestTurn 0 x4_49 x1_46 x2_47 s50) fun z52 =>
                some ((i32 z52.1), z52.2)) ((2 : Int) ^ vs.length).toNat FU ((2 : Int) ^ vs.length - 1) s1 (by omega) (by omega) b3.2.1.1 b4 (fun T t0 t1 => by omega) (by have := FU_ge; omega)
          have z0 : (0 : Int) < 2 ^ vs.length := by omega
          have sub0 : iand 0 (ixor of (-1)) = 0 := by
            rw [sub_ev (by omega) k1]
            intro o o0 o1 ob
            have : ∀ o : Fin 7, bit 0 o.val = false := by decide
            have := this ⟨o.toNat, by omega⟩
            dsimp only at this
            rw [show ((o.toNat : Nat) : Int) = o by omega] at this
            rw [this] at ob
            cases ob
          have pop0 : popF 0 = 0 := by decide
          have lf0 : lfB of 0 = of := by
            refine bit_ext (mkB_b _).1 k1 (fun o o0 o1 => ?_)
            rw [lf_bits o o0 o1]
            have : ∀ o : Fin 7, bit 0 o.val = false := by decide
            have := this ⟨o.toNat, by omega⟩
            dsimp only at this
            rw [show ((o.toNat : Nat) : Int) = o by omega] at this
            rw [this]
            simp
          have m0 : s2 63 0 = chF vs.length (wlX 36 τ) 6 a b of := by
            rw [d3 0 (by omega) z0]
            unfold mvT mvF
            rw [if_pos sub0, pop0, lf0]
            rfl
          have O2 : only qfk s s2 := (b2.mono (by unfold lpk qfk; intro k; simp; omega)).tr (d2.mono (by unfold qfk; intro k; simp; omega))
          have X : ∀ {r : Option (Int × XS)}, (if i32 c = 0 then
            some (chF vs.length (wlX 36 τ) 6 a b of, t3)
          else
            gd (ok 6 0) <|
            some ((i32 (t3 35 (i32 0))), t3)) = r → x0_choose a b c τ = r := fun {r} hr => by
            unfold x0_choose
            exact st_bind (isSay_x h ha) (st_f (z1b c1) (st_bind (isSay_x h hb) (st_f (z1b c2) (st_f ne (st_bind xc (st_f (z1b c4) (st_bind a1 (st_gd rfl (st_gd (by decide) (st_be (e' := t2) (by dsimp only; rw [i32_0]; exact e2) (st_bind sk (st_bind x1 (st_bnd hr)))))))))))))
          have M : ∀ {r : Option (Int × MS)}, (if i32 c = 0 then
                gd (ok 128 0) <|
                some ((s2 63 (i32 0)), s2)
              else
                Option.bind (m_bestTurn 0 of a b s2) fun z52 =>
                some ((i32 z52.1), z52.2)) = r → m_choose a b c s = r := fun {r} hr => by
            unfold m_choose
            refine st_bind (isSay_m h ha) (st_f (z1b c1) (st_bind (isSay_m h hb) (st_f (z1b c2) (st_f ne (st_bind mc (st_f (z1b c4) (st_bind b1 (st_bind skm (st_bnd (st_bind (verbMany_ev b3.2.1.1) (st_be (e' := (2 : Int) ^ vs.length - 1) fe (d1.trans hr))))))))))))
          unfold x0_choose at X
          unfold m_choose at M
          by_cases c0 : c = 0
          · have z : i32 c = 0 := by rw [c0]; exact i32_0
            exact h.qc (X (st_t z rfl)) (M (st_t z (st_gd (by decide) (by rw [i32_0, m0])))) (onQ.lx L3) O2 (h.q36 L3)
          · have z : ¬ i32 c = 0 := by rw [hc.e]; exact c0
            have bt := bestTurn_ev (s := s2) (n := ws.length) (nv := vs.length) (of := of) (one := a) (other := b) (wl := wlX 36 τ) hn.2.1 hn.1 (by rw [d2 36 (by decide)]; exact b3.2.1.1) (fun o v q1 q2 q3 q4 => by rw [d2 51 (by decide)]; exact b4 o v q1 q2 q3 q4) k1 hob c1 c2 (S := 0) (by omega) sub0 (by rw [pop0]; omega) (fun T t0 t1 => d3 T (by omega) t1) (nf := nfF vs.length (wlX 36 τ) 5 a b of) (by rw [pop0, lf0]; rfl)
            rw [lf0] at bt
            exact h.qc (X (st_f z (st_gd (by decide) (by rw [i32_0, x3])))) (M (st_f z (st_bind bt rfl))) (onQ.lx L3) O2 (h.q36 L3)
        · exact h.same (st_bind (isSay_x h ha) (st_f (z1b c1) (st_bind (isSay_x h hb) (st_f (z1b c2) (st_f ne (st_bind xc (st_t (z0b c4) rfl))))))) (st_bind (isSay_m h ha) (st_f (z1b c1) (st_bind (isSay_m h hb) (st_f (z1b c2) (st_f ne (st_bind mc (st_t (z0b c4) rfl)))))))
    · exact h.same (st_bind (isSay_x h ha) (st_f (z1b c1) (st_bind (isSay_x h hb) (st_t (z0b c2) rfl)))) (st_bind (isSay_m h ha) (st_f (z1b c1) (st_bind (isSay_m h hb) (st_t (z0b c2) rfl))))
  · exact h.same (st_bind (isSay_x h ha) (st_t (z0b c1) rfl)) (st_bind (isSay_m h ha) (st_t (z0b c1) rfl))
end
