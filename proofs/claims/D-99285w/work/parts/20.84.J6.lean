set_option maxRecDepth 100000
/-! LAYER 2: rows that clash least, of both, joined -/
section
variable {τ τ' : XS} {s s' : MS} {n nv : Nat} {of a : Int} {cn : Int → Int → Bool} {wl : Int → Int → Int}
theorem clash_ev (hM : mgR s n nv 1 cn) {r : List Int} (hr : rowOk n nv r) (h53 : hR s 53 r) : m_clashes s = some (clF cn 0 r, s) := by
  have h6 := hM.1.2
  have h7 := hM.2.1.2
  have tab : ∀ o v : Int, 0 ≤ o → o < n → 0 ≤ v → v < nv → s 52 (7 * o + v) = b2i (cn o v) := by
    rcases hM.2.2 with q | q
    · exact absurd q.1 (by decide)
    · exact q.2
  have go : ∀ (d fuel i : Nat) (t : Int), i + d = n → d < fuel → m_clashes_L4 (fun (x1_19 : Int) (s20 : MS) => some (x1_19, s20)) fuel t i s = some (t + clF cn i (r.drop i), s) := by
    intro d
    induction d with
    | zero =>
      intro fuel i t hi hf
      obtain ⟨g, rfl⟩ : ∃ g, fuel = g + 1 := ⟨fuel - 1, by omega⟩
      rw [m_clashes_L4, List.drop_eq_nil_of_le (by rw [hr.1]; omega), clF, Int.add_zero]
      refine st_bind (sayMany_ev hM.1.1) (st_t ?_ rfl)
      dsimp only
      rw [i32_id (by omega) (by omega), i32_id (by omega) (by omega)]; omega
    | succ d ih =>
      intro fuel i t hi hf
      obtain ⟨g, rfl⟩ : ∃ g, fuel = g + 1 := ⟨fuel - 1, by omega⟩
      have hl : i < r.length := by rw [hr.1]; omega
      have e := h53.get hl
      have hu := hr.2 r[i] (List.getElem_mem hl)
      have ii : i32 (i : Int) = i := i32_id (by omega) (by omega)
      have i7 : i32 (7 * (i : Int) + r[i]) = 7 * i + r[i] := i32_id (by omega) (by omega)
      have ep : (s 53 (i32 (i : Int))) = r[i] := by rw [ii]; exact e
      have okp : ok 42 (7 * (i : Int) + s 53 (i32 (i : Int))) := by rw [ep]; unfold ok; rw [i7]; omega
      have nle : ¬ i32 (n : Int) ≤ i32 (i : Int) := by rw [ii, i32_id (by omega) (by omega)]; omega
      have et : s 52 (i32 (7 * (i : Int) + s 53 (i32 (i : Int)))) = b2i (cn i r[i]) := by rw [ep, i7]; exact tab i r[i] (by omega) (by omega) hu.1 hu.2
      have en : (i : Int) + 1 = ((i + 1 : Nat) : Int) := by omega
      rw [m_clashes_L4, List.drop_eq_getElem_cons hl, clF]
      cases hc : cn i r[i] with
      | true =>
        rw [hc] at et
        refine st_bind (sayMany_ev hM.1.1) (st_f nle (st_gd (by unfold ok; rw [ii]; omega) (st_gd okp (st_bnd (st_f (by dsimp only; rw [et]; exact n10) (st_bnd ?_))))))
        rw [en, ih g (i + 1) t (by omega) (by omega)]
        rw [show b2i (!true) = 0 from rfl, Int.zero_add]
      | false =>
        rw [hc] at et
        refine st_bind (sayMany_ev hM.1.1) (st_f nle (st_gd (by unfold ok; rw [ii]; omega) (st_gd okp (st_bnd (st_t (by dsimp only; rw [et]; exact i32_0) (st_bnd (st_bnd ?_)))))))
        rw [en, ih g (i + 1) (t + 1) (by omega) (by omega)]
        rw [show b2i (!false) = 1 from rfl, show t + 1 + clF cn (i + 1) (r.drop (i + 1)) = t + (1 + clF cn (i + 1) (r.drop (i + 1))) by omega]
  unfold m_clashes
  refine st_bnd (st_bnd ?_)
  have q := go n FU 0 0 (by omega) (by have := FU_ge; omega)
  rw [List.drop_zero, Int.zero_add] at q
  exact q
/-- the fewest clashes so far, as the reference holds it: how many, its verb -/
def spM (cn : Int → Int → Bool) (a : Int) (b : Option (List Int)) (few its : Int) : Prop := match b with
  | none => few = -1
  | some r => few = clF cn 0 r ∧ its = if a = -1 then -1 else r.getD a.toNat 0
noncomputable def sJ35 (K : Int → Int → Int → MS → Option (Int × MS)) (f : Nat) (x1_27 x2_28 x3_29 x4_30 : Int) (s31 : MS) : Option (Int × MS) :=
          Option.bind (m_sayingMany s31) fun z32 =>
          Option.bind (m_isNextRow (z32.1 - 1) x2_28 0 z32.2) fun z33 =>
          bnd z33.1 fun x5_34 =>
          m_spilt_L53 K f x1_27 x2_28 x3_29 x4_30 x5_34 z33.2
theorem spl_upd (K : Int → Int → Int → MS → Option (Int × MS)) {f : Nat} {r : List Int} {b : Option (List Int)} {few its : Int} (ha : a = -1 ∨ (0 ≤ a ∧ a < n)) (hM : mgR s n nv 1 cn) (hr : rowOk n nv r) (h53 : hR s 53 r) (hb : spM cn a b few its) (hbr : ∀ r0, b = some r0 → rowOk n nv r0) :
    ∃ few' its', m_spilt_L53 K (f + 1) a of few its 1 s = sJ35 K f a of few' its' s ∧ spM cn a (better (clF cn 0) b r) few' its' := by
  have h6 := hM.1.2
  have hcr := clF_b cn r 0
  have hrl := hr.1
  have new : ∃ its', (bnd (fun (x1_40 : Int) (x2_41 : Int) (x3_42 : Int) (w43 : Int) (s44 : MS) =>
              sJ35 K f x1_40 x2_41 x3_42 w43 s44) fun j45 =>
          if i32 a = i32 (-1) then
            j45 a of (clF cn 0 r) (-1) s
          else
            gd (ok 6 a) <|
            j45 a of (clF cn 0 r) (s 53 (i32 a)) s) = sJ35 K f a of (clF cn 0 r) its' s ∧ spM cn a (some r) (clF cn 0 r) its' := by
    rcases ha with rfl | ha
    · exact ⟨-1, st_bnd (st_t rfl rfl), rfl, rfl⟩
    · have ia : i32 a = a := i32_id (by omega) (by omega)
      have hl : a.toNat < r.length := by omega
      have e := h53.get hl
      rw [show ((a.toNat : Nat) : Int) = a by omega] at e
      refine ⟨s 53 a, st_bnd (st_f (by rw [ia, show i32 (-1) = -1 by decide]; omega) (st_gd (by unfold ok; rw [ia]; omega) ?_)), rfl, ?_⟩
      · rw [ia]
      · rw [if_neg (by omega), e, List.getD_eq_getElem?_getD, List.getElem?_eq_getElem hl]
        rfl
  have hd : ∀ {x : Option (Int × MS)}, (if i32 few = i32 (-1) then
        (bnd (fun (x1_40 : Int) (x2_41 : Int) (x3_42 : Int) (w43 : Int) (s44 : MS) =>
              sJ35 K f x1_40 x2_41 x3_42 w43 s44) fun j45 =>
          if i32 a = i32 (-1) then
            j45 a of (clF cn 0 r) (-1) s
          else
            gd (ok 6 a) <|
            j45 a of (clF cn 0 r) (s 53 (i32 a)) s)
      else
        if i32 few ≤ i32 (clF cn 0 r) then
          sJ35 K f a of few its s
        else
          (bnd (fun (x1_40 : Int) (x2_41 : Int) (x3_42 : Int) (w43 : Int) (s44 : MS) =>
              sJ35 K f x1_40 x2_41 x3_42 w43 s44) fun j45 =>
          if i32 a = i32 (-1) then
            j45 a of (clF cn 0 r) (-1) s
          else
            gd (ok 6 a) <|
            j45 a of (clF cn 0 r) (s 53 (i32 a)) s)) = x → m_spilt_L53 K (f + 1) a of few its 1 s = x := fun {x} h => by
    rw [m_spilt_L53]
    exact st_f n10 (st_bind (clash_ev hM hr h53) (st_bnd (st_bnd (st_bnd h))))
  obtain ⟨its', w1, w2⟩ := new
  cases b with
  | none =>
    have e : few = -1 := hb
    exact ⟨_, its', hd (st_t (by rw [e]) w1), w2⟩
  | some r0 =>
    obtain ⟨b1, b2⟩ := hb
    have hc0 := clF_b cn r0 0
    have hr0 := (hbr r0 rfl).1
    have nf : ¬ i32 few = i32 (-1) := by rw [b1, i32_id (by omega) (by omega), show i32 (-1) = -1 by decide]; omega
    rw [better_some]
    by_cases c : clF cn 0 r < clF cn 0 r0
    · rw [if_pos c]
      refine ⟨_, its', hd (st_f nf (st_f ?_ w1)), w2⟩
      rw [b1, i32_id (by omega) (by omega), i32_id (by omega) (by omega)]; omega
    · rw [if_neg c]
      refine ⟨few, its, hd (st_f nf (st_t ?_ rfl)), b1, b2⟩
      rw [b1, i32_id (by omega) (by omega), i32_id (by omega) (by omega)]; omega
theorem better_row {f : List Int → Int} {b : Option (List Int)} {r : List Int} {P : List Int → Prop} (hb : ∀ r0, b = some r0 → P r0) (hr : P r) : ∀ r0, better f b r = some r0 → P r0 := by
  intro r0 h
  cases b with
  | none => cases h; exact hr
  | some l =>
    rw [better_some] at h
    split at h
    · cases h; exact hr
    · cases h; exact hb _ rfl
theorem spl_go (hof : 0 ≤ of ∧ of < 128) (ha : a = -1 ∨ (0 ≤ a ∧ a < n)) (K : Int → Int → Int → MS → Option (Int × MS)) : ∀ (L : Nat) (pr : List Int) (k fuel : Nat) (s : MS) (b : Option (List Int)) (few its : Int), (aft nv (cbF tru of) n pr k).length = L → mgR s n nv 1 cn → pr.length + 1 = n → (∀ u ∈ pr, 0 ≤ u ∧ u < nv) → k + 1 ≤ nv → hR s 53 (pr.reverse ++ [(nv : Int) - ((k : Int) + 1)]) → spM cn a b few its → (∀ r0, b = some r0 → rowOk n nv r0) → L + 1 < fuel →
    ∃ s' few' its', m_spilt_L53 K fuel a of few its 1 s = K a few' its' s' ∧ only [53] s s' ∧ spM cn a ((aft nv (cbF tru of) n pr k).foldl (better (clF cn 0)) (better (clF cn 0) b (pr.reverse ++ [(nv : Int) - ((k : Int) + 1)]))) few' its' := by
  intro L
  induction L using Nat.strongRecOn with
  | ind L ih =>
    intro pr k fuel s b few its hL hM hp hb hk h53 hg hbr hf
    obtain ⟨f, rfl⟩ : ∃ f, fuel = f + 1 := ⟨fuel - 1, by omega⟩
    have h6 := hM.1.2
    have h7 := hM.2.1.2
    have hr : rowOk n nv (pr.reverse ++ [(nv : Int) - ((k : Int) + 1)]) := by
      refine ⟨by simp; omega, fun u hu => ?_⟩
      rcases List.mem_append.mp hu with hu | hu
      · exact hb u (List.mem_reverse.mp hu)
      · rw [List.mem_singleton] at hu; rw [hu]; omega
    obtain ⟨few1, its1, a1, a3⟩ := spl_upd (of := of) K (f := f) ha hM hr h53 hg hbr
    have M0 : mgR s n nv 0 tru := ⟨hM.1, hM.2.1, Or.inl ⟨rfl, fun _ _ => rfl⟩⟩
    have lst := h53.last
    rw [List.length_reverse] at lst
    obtain ⟨Mx, hMx, mb⟩ := MmI.ex h7 (pr := pr) (fun u hu => (hb u hu).1) (k := k) (by omega) (by omega)
    obtain ⟨s4, b1, b2⟩ := nextRow_go hof (fun (s44 : MS) => some (0, s44)) (fun (s45 : MS) => some (1, s45)) Mx pr k FU s hMx M0 (by omega) hb (by omega) (by rw [lst]; omega) h53.pre (by have := FU_ge; omega)
    have en : (n : Int) - 1 = (pr.length : Nat) := by omega
    rcases b2 with ⟨b2, b3⟩ | ⟨pr', k', b2, b3, b4, b5, b6, b7⟩
    · rw [b2, List.foldl_nil]
      obtain ⟨f', rfl⟩ : ∃ f', f = f' + 1 := ⟨f - 1, by omega⟩
      refine ⟨s4, few1, its1, ?_, b1, a3⟩
      rw [a1]
      unfold sJ35
      refine st_bind (sayMany_ev hM.1.1) (st_bind (z := (0, s4)) ?_ (st_bnd ?_))
      · unfold m_isNextRow
        dsimp only
        rw [en]
        exact b3
      · rw [m_spilt_L53]
        exact st_t i32_0 rfl
    · rw [b2, List.foldl_cons]
      rw [b2, List.length_cons] at hL
      obtain ⟨s5, few2, its2, c1, c2, c3⟩ := ih _ (show (aft nv (cbF tru of) n pr' k').length < L by omega) pr' k' f s4 _ few1 its1 rfl (hM.kept (b1 36 (by decide)) (b1 52 (by decide))) b3 b5 b4 b7 a3 (better_row hbr hr) (by omega)
      refine ⟨s5, few2, its2, ?_, b1.tr c2, c3⟩
      rw [a1]
      unfold sJ35
      refine st_bind (sayMany_ev hM.1.1) (st_bind (z := (1, s4)) ?_ (st_bnd c1))
      unfold m_isNextRow
      dsimp only
      rw [en]
      exact b6
end
section
variable {τ τ' : XS} {s s' : MS} {N : Int} {es fs : List Int} {ws vs : List (List Int)} {a b c : Int}
theorem CLs.spilt (h : INV τ s N es fs ws vs) (ha : rgI a) : CL τ s (x0_spilt a τ) (m_spilt a s) := by
  have hn := h.le
  obtain ⟨x1, hc⟩ := isC_x h
  obtain ⟨-, ⟨l1, l2, -⟩, -⟩ := h.2.2.2.2.1.1
  obtain ⟨k1, k2⟩ := skV_b (nv := vs.length) (by omega) l1
  unfold x0_spilt m_spilt
  rcases hc with hc | hc
  · exact h.same (st_bind x1 (st_t (z0b (by omega)) rfl)) (st_t (by rw [hc]; exact i32_0) rfl)
  have n46 : ¬ i32 (s 46 0) = 0 := by rw [hc]; exact n10
  by_cases hA : a = -1 ∨ (0 ≤ a ∧ a < ws.length)
  · -- both go on
    obtain ⟨of, eof⟩ : ∃ of, skV vs.length (τ 36 1) = of := ⟨_, rfl⟩
    have X : ∀ {r : Option (Int × XS)}, (if i32 (ws.length : Int) ≤ i32 (popF of) then
          Option.bind (x6_by 36 τ) fun z10 =>
          gd (z10.1 = 19) <|
          Option.bind (x6_spilt z10.2) fun z12 =>
          gd (z12.1 = 19) <|
          if i32 a = i32 (-1) then
            some ((z12.2 19 7), z12.2)
          else
            gd (ok 6 a) <|
            some ((z12.2 34 (i32 a)), z12.2)
        else
          some ((-1), τ)) = r → x0_spilt a τ = r := fun {r} hr => by
      have sk := sack_x h.rl
      rw [eof] at sk
      have bc := bitCount_ev τ (a := of) (by rw [← eof]; exact k1)
      unfold x0_spilt
      refine st_bind x1 (st_f (z1b hc) (st_bnd ?_))
      rcases hA with q | q
      · exact st_t (by rw [q]) (st_bind sk (st_bind bc (st_bind (sayings_ev h.2.2.2.1.cty) hr)))
      · exact st_f (by rw [ha.e, show i32 (-1) = -1 by decide]; omega) (st_bind (isSay_x h ha) (st_f (z1b q) (st_bind sk (st_bind bc (st_bind (sayings_ev h.2.2.2.1.cty) hr)))))
    have M : ∀ {r : Option (Int × MS)}, (if i32 (ws.length : Int) = 0 then
          some (0, s)
        else
          Option.bind (m_laysPairs s) fun z7 =>
          Option.bind (m_sack z7.2) fun z8 =>
          bnd z8.1 fun x2_9 =>
          bnd (-1) fun x3_10 =>
          bnd (-1) fun x4_11 =>
          Option.bind (m_isFirstRow x2_9 0 z8.2) fun z12 =>
          bnd z12.1 fun x5_13 =>
          m_spilt_L53
            (fun (x1_51 : Int) (x3_52 : Int) (x4_53 : Int) (s54 : MS) =>
              if i32 x1_51 = i32 (-1) then
                some (x3_52, s54)
              else
                some (x4_53, s54))
            FU a x2_9 x3_10 x4_11 x5_13 z12.2) = r → m_spilt a s = r := fun {r} hr => by
      unfold m_spilt
      refine st_f n46 (st_bnd ?_)
      rcases hA with q | q
      · exact st_t (by rw [q]) (st_bind (sayMany_ev hn.2.2.1) hr)
      · exact st_f (by rw [ha.e, show i32 (-1) = -1 by decide]; omega) (st_bind (isSay_m h ha) (st_f (z1b q) (st_bind (sayMany_ev hn.2.2.1) hr)))
    unfold x0_spilt at X
    unfold m_spilt at M
    have pb := pop_b (a := of) (by rw [← eof]; exact k1)
    have hrows : rws vs.length (cbF tru of) ws.length [] ≠ [] ↔ (ws.length : Int) ≤ popF of := by
      rw [rows_some]
      have q := pop_rm ⟨vs.length, by omega⟩ ⟨of.toNat, by omega⟩ (fun o ho => by
        dsimp only at *
        rw [show ((of.toNat : Nat) : Int) = of by omega, ← eof, k2 o.val (by omega) (by omega), decide_eq_false (by omega)]
        rfl)
      dsimp only at q
      rw [show ((of.toNat : Nat) : Int) = of by omega] at q
      omega
    obtain ⟨t1, a1, a2, a3, -, a5⟩ := by_x h.rl
    rw [eof] at a3
    have h1 := h.rl.lx a2 stn.rf rfl
    by_cases hp : (ws.length : Int) ≤ popF of
    · have lep : i32 (ws.length : Int) ≤ i32 (popF of) := by rw [i32_id (by omega) (by omega), i32_id (by omega) (by omega)]; exact hp
      obtain ⟨t2, b1, b2, b3⟩ := spilt_x hn.1 hn.2.1 (by rw [← eof]; exact k1) a3 h1.2.1.cty a5
      have L2 : lox τ t2 := a2.tr (onxG b2)
      obtain ⟨r, hr⟩ := best_some (f := clF (cnX 36 τ) 0) (rws vs.length (cbF tru of) ws.length []) none (Or.inl (hrows.mpr hp))
      rw [hr] at b3
      obtain ⟨p1, p2, p3⟩ := b3
      have hcr := clF_b (cnX 36 τ) r 0
      have p31 := p3.1
      -- the system's answer
      obtain ⟨z, ez⟩ : ∃ z, (if a = -1 then clF (cnX 36 τ) 0 r else r.getD a.toNat 0) = z := ⟨_, rfl⟩
      have xr : (if i32 a = i32 (-1) then some ((t2 19 7), t2) else gd (ok 6 a) <| some ((t2 34 (i32 a)), t2)) = some (z, t2) := by
        rcases hA with q | q
        · rw [if_pos q] at ez
          exact st_t (by rw [q]) (by rw [p1, ez])
        · rw [if_neg (by omega)] at ez
          have hl : a.toNat < r.length := by omega
          have e := p2 a.toNat _ (List.getElem?_eq_getElem hl)
          rw [show ((a.toNat : Nat) : Int) = a by omega] at e
          refine st_f (by rw [ha.e, show i32 (-1) = -1 by decide]; omega) (st_gd (by unfold ok; rw [ha.e]; omega) ?_)
          rw [ha.e, e, ← ez, List.getD_eq_getElem?_getD, List.getElem?_eq_getElem hl]
          rfl
      have xx := X (st_t lep (st_bind a1 (st_gd rfl (st_bind b1 (st_gd rfl xr)))))
      by_cases h0 : ws.length = 0
      · have am : a = -1 := by omega
        have rn : r = [] := by
          have := p3.1
          rw [h0] at this
          exact List.length_eq_zero_iff.mp this
        rw [if_pos am, rn] at ez
        rw [← ez] at xx
        exact h.qc (z := 0) xx (M (st_t (by rw [h0]; exact i32_0) rfl)) (onQ.lx L2) only.rf (h.q36 L2)
      · have nn : ¬ i32 (ws.length : Int) = 0 := by rw [i32_id (by omega) (by omega)]; omega
        obtain ⟨s1, c1, c2, c3, -⟩ := lays_ev h.rl
        have h11 : RLc τ s1 N 36 es fs ws vs := h.rl.lx lox.rf (stn.of c2 (by decide)) (c2 48 (by decide))
        have sk := sack_m h11
        rw [eof] at sk
        have M0 : mgR s1 ws.length vs.length 0 tru := ⟨c3.1, c3.2.1, Or.inl ⟨rfl, fun _ _ => rfl⟩⟩
        obtain ⟨s2, d1, d2⟩ := first_ev (of := of) (by rw [← eof]; exact k1) M0 (by omega)
        rcases d2 with ⟨d2, -⟩ | ⟨pr', k', d2, d3, d4, d5, d6, d7⟩
        · exact absurd d2 (hrows.mpr hp)
        · have hlen := rws_len hn.2.1 (cb := cbF tru of) ws.length []
          have h7n : 7 ^ ws.length ≤ 7 ^ 6 := Nat.pow_le_pow_right (by decide) hn.1
          have h76 : (7 : Nat) ^ 6 = 117649 := by decide
          rw [d2, List.length_cons] at hlen
          obtain ⟨s3, few, its, e1, e2, e3⟩ := spl_go (n := ws.length) (nv := vs.length) (of := of) (cn := cnX 36 τ) (a := a) (by rw [← eof]; exact k1) hA (fun (x1_51 : Int) (x3_52 : Int) (x4_53 : Int) (s54 : MS) =>
              if i32 x1_51 = i32 (-1) then
                some (x3_52, s54)
              else
                some (x4_53, s54)) _ pr' k' FU s2 none (-1) (-1) rfl (c3.kept (d1 36 (by decide)) (d1 52 (by decide))) d3 d5 d4 d7 rfl (fun r0 q => by cases q) (by have := FU_ge; omega)
          rw [d2, List.foldl_cons] at hr
          rw [hr] at e3
          obtain ⟨f1, f2⟩ := e3
          refine h.qc (z := z) xx (M (st_f nn (st_bind c1 (st_bind sk (st_bnd (st_bnd (st_bnd (st_bind d6 (st_bnd (e1.trans ?_)))))))))) (onQ.lx L2) ((c2.mono (by unfold lpk qfk; intro k; simp; omega)).tr ((d1.tr e2).mono (by unfold qfk; intro k; simp; omega))) (h.q36 L2)
          rcases hA with q | q
          · rw [if_pos q] at ez
            exact st_t (by rw [q]) (by rw [f1, ez])
          · rw [if_neg (by omega)] at ez f2
            exact st_f (by rw [ha.e, show i32 (-1) = -1 by decide]; omega) (by rw [f2, ez])
    · have nlep : ¬ i32 (ws.length : Int) ≤ i32 (popF of) := by rw [i32_id (by omega) (by omega), i32_id (by omega) (by omega)]; exact hp
      have h0 : ¬ ws.length = 0 := by omega
      have nn : ¬ i32 (ws.length : Int) = 0 := by rw [i32_id (by omega) (by omega)]; omega
      obtain ⟨s1, c1, c2, c3, -⟩ := lays_ev h.rl
      have h11 : RLc τ s1 N 36 es fs ws vs := h.rl.lx lox.rf (stn.of c2 (by decide)) (c2 48 (by decide))
      have sk := sack_m h11
      rw [eof] at sk
      have M0 : mgR s1 ws.length vs.length 0 tru := ⟨c3.1, c3.2.1, Or.inl ⟨rfl, fun _ _ => rfl⟩⟩
      obtain ⟨s2, d1, d2⟩ := first_ev (of := of) (by rw [← eof]; exact k1) M0 (by omega)
      rcases d2 with ⟨d2, d3⟩ | ⟨pr', k', d2, -⟩
      · refine h.qc (z := -1) (X (st_f nlep rfl)) (M (st_f nn (st_bind c1 (st_bind sk (st_bnd (st_bnd (st_bnd (st_bind d3 (st_bnd ?_))))))))) onQ.rf ((c2.mono (by unfold lpk qfk; intro k; simp; omega)).tr (d1.mono (by unfold qfk; intro k; simp; omega))) h.2.2.2.2.2.1
        obtain ⟨f, hf⟩ := FU_s
        rw [hf, m_spilt_L53]
        refine st_t i32_0 ?_
        by_cases q : i32 a = i32 (-1)
        · exact st_t q rfl
        · exact st_f q rfl
      · exact absurd (hrows.mp (by rw [d2]; simp)) hp
  · have q1 : ¬ i32 a = i32 (-1) := by rw [ha.e, show i32 (-1) = -1 by decide]; omega
    have q2 : ¬ (0 ≤ a ∧ a < ws.length) := by omega
    exact h.same (st_bind x1 (st_f (z1b hc) (st_bnd (st_f q1 (st_bind (isSay_x h ha) (st_t (z0b q2) rfl)))))) (st_f n46 (st_bnd (st_f q1 (st_bind (isSay_m h ha) (st_t (z0b q2) rfl)))))
end
