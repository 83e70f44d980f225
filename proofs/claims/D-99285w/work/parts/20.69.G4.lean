set_option maxRecDepth 100000
/-! LAYER 2: the system's best giving -/
theorem wsF_app (wl : Int → Int → Int) : ∀ (p q : List Int) (o : Nat), wsF wl o (p ++ q) = wsF wl o p + wsF wl (o + p.length) q
  | [], q, o => by simp [wsF]
  | u :: p, q, o => by
    rw [List.cons_append, wsF, wsF, wsF_app wl p q, List.length_cons, show o + 1 + p.length = o + (p.length + 1) by omega]
    omega
theorem wsF_snoc (wl : Int → Int → Int) (p : List Int) (v : Int) : wsF wl 0 (p ++ [v]) = wsF wl 0 p + wl p.length v := by
  rw [wsF_app, wsF, wsF, Nat.zero_add]
  omega
section
variable {τ τ' : XS} {n nv : Nat} {of : Int} {cn : Int → Int → Bool} {wl : Int → Int → Int}
/-- of the system: what can be taken, how well -/
def xgR (τ : XS) (n nv : Nat) (cn : Int → Int → Bool) (wl : Int → Int → Int) : Prop := ∀ o v : Int, 0 ≤ o → o < n → 0 ≤ v → v < nv → τ (20 + 1 + o) v = b2i (cn o v) ∧ τ (27 + 1 + o) v = wl o v ∧ bd1 (wl o v)
/-- the best giving so far, as the system holds it -/
def gvX (τ : XS) (n nv : Nat) (wl : Int → Int → Int) (b : Option (List Int)) : Prop := match b with
  | none => τ 19 5 = 0
  | some r => τ 19 5 = 1 ∧ τ 19 6 = wsF wl 0 r ∧ holdsX τ 34 r ∧ rowOk n nv r
theorem gvX.kp {b : Option (List Int)} (h : gvX τ n nv wl b) (h1 : τ' 34 = τ 34) (h2 : τ' 19 5 = τ 19 5) (h3 : τ' 19 6 = τ 19 6) : gvX τ' n nv wl b := by
  cases b with
  | none => unfold gvX at *; dsimp only at *; rw [h2]; exact h
  | some r => unfold gvX at *; dsimp only at *; rw [h2, h3]; exact ⟨h.1, h.2.1, h.2.2.1.of h1, h.2.2.2⟩
theorem stand_giv : stand [19, 34, 35] := by
  intro c hc
  simp at hc
  unfold dyn
  omega
theorem xgR.kept (h : xgR τ n nv cn wl) (hn : n ≤ 6) (ho : onx [19, 34, 35] τ τ') : xgR τ' n nv cn wl := fun o v h1 h2 h3 h4 => by
  rw [ho (20 + 1 + o) (by simp; omega), ho (27 + 1 + o) (by simp; omega)]
  exact h o v h1 h2 h3 h4
theorem giv41 (rc : Int → Int → Int → XS → Option (Int × XS)) {r : List Int} (hr : r.length = n) (hn : n ≤ 6) (K : XS → Option (Int × XS)) : ∀ (d fuel i : Nat) (τ : XS), holdsX τ 35 r → holdsX τ 34 (r.take i) → i + d = n → d < fuel → ∃ τ', x6_gives_B_L41 rc K fuel n i τ = K τ' ∧ onx [34] τ τ' ∧ holdsX τ' 34 r := by
  intro d
  induction d with
  | zero =>
    intro fuel i τ h35 h34 hi hf
    obtain ⟨g, rfl⟩ : ∃ g, fuel = g + 1 := ⟨fuel - 1, by omega⟩
    refine ⟨τ, ?_, onx.rf, by rw [List.take_of_length_le (by omega)] at h34; exact h34⟩
    rw [x6_gives_B_L41]
    refine st_t ?_ rfl
    rw [i32_id (by omega) (by omega), i32_id (by omega) (by omega)]
    omega
  | succ d ih =>
    intro fuel i τ h35 h34 hi hf
    obtain ⟨g, rfl⟩ : ∃ g, fuel = g + 1 := ⟨fuel - 1, by omega⟩
    have hl : i < r.length := by omega
    have e : τ 35 i = r[i] := h35 i _ (List.getElem?_eq_getElem hl)
    have ii : i32 (i : Int) = i := i32_id (by omega) (by omega)
    have oki : ok 6 (i : Int) := by unfold ok; rw [ii]; omega
    obtain ⟨τ1, e1⟩ : ∃ τ1, ux τ 34 (i : Int) r[i] = τ1 := ⟨_, rfl⟩
    have o1 : onx [34] τ τ1 := by rw [← e1]; exact onx.up (by decide)
    have h34' : holdsX τ1 34 (r.take (i + 1)) := by
      have := holdsX_snoc h34 r[i]
      rw [List.length_take, Nat.min_eq_left (by omega), e1] at this
      rw [List.take_succ_eq_append_getElem hl]
      exact this
    obtain ⟨τ', a1, a2, a3⟩ := ih g (i + 1) τ1 (h35.of (o1 35 (by decide))) h34' (by omega) (by omega)
    refine ⟨τ', ?_, o1.tr a2, a3⟩
    rw [x6_gives_B_L41]
    refine st_f ?_ (st_gd oki (st_gd oki (st_be (e' := τ1) ?_ (st_bnd ?_))))
    · rw [ii, i32_id (by omega) (by omega)]; omega
    · rw [ii, e]; exact e1
    · rw [show (i : Int) + 1 = ((i + 1 : Nat) : Int) by omega]; exact a1
theorem x_giv (hn : n ≤ 6) (hnv : nv ≤ 7) : ∀ (r m : Nat) (p : List Int) (left : Int) (τ : XS) (b : Option (List Int)), r < m → p.length + r = n → (0 ≤ left ∧ left < 128) → (∀ v : Int, 0 ≤ v → v < 7 → bit left v = (bit of v && !(p.contains v))) → (∀ u ∈ p, 0 ≤ u ∧ u < nv) → cty τ n nv → xgR τ n nv cn wl → holdsX τ 35 p → gvX τ n nv wl b →
    ∃ τ', x6_gives m p.length left (wsF wl 0 p) τ = some (0, τ') ∧ onx [19, 34, 35] τ τ' ∧ holdsX τ' 35 p ∧ gvX τ' n nv wl ((rws nv (cbF cn of) r p).foldl (wbt wl) b) ∧ τ' 19 4 = τ 19 4 := by
  intro r
  induction r with
  | zero =>
    intro m p left τ b hm hpr hl hbl hp hct hg h35 hb
    obtain ⟨m, rfl⟩ : ∃ g, m = g + 1 := ⟨m - 1, by omega⟩
    have fu := FU_ge
    have hws := wsF_b (wl := wl) (n := n) (nv := nv) (fun o v h1 h2 h3 h4 => (hg o v h1 h2 h3 h4).2.2)
    have hwp := hws p 0 (by omega) hp
    have hpn : p.length = n := by omega
    rw [hpn] at hwp
    have it : i64 (wsF wl 0 p) = wsF wl 0 p := i64_id (by omega) (by omega)
    rw [rws, List.foldl_cons, List.foldl_nil]
    have new : ∃ τ', (bnd (ux τ 19 5 1) fun s36 =>
        bnd (ux s36 19 6 (wsF wl 0 p)) fun s37 =>
        bnd 0 fun x5_38 =>
        x6_gives_B_L41 (x6_gives m)
          (fun (s48 : XS) =>
            some (0, s48))
          FU (p.length : Int) x5_38 s37) = some (0, τ') ∧ onx [19, 34, 35] τ τ' ∧ holdsX τ' 35 p ∧ gvX τ' n nv wl (some p) ∧ τ' 19 4 = τ 19 4 := by
      obtain ⟨τ1, e1⟩ : ∃ τ1, ux (ux τ 19 5 1) 19 6 (wsF wl 0 p) = τ1 := ⟨_, rfl⟩
      have o1 : onx [19] τ τ1 := by rw [← e1]; exact (onx.up (by decide)).tr (onx.up (by decide))
      obtain ⟨τ2, a1, a2, a3⟩ := giv41 (n := n) (x6_gives m) hpn hn (fun (s48 : XS) => some (0, s48)) n FU 0 τ1 (h35.of (o1 35 (by decide))) (fun i x hx => by simp at hx) (by omega) (by omega)
      have o2 : onx [19, 34, 35] τ τ2 := (o1.mono (by simp)).tr (a2.mono (by simp))
      refine ⟨τ2, ?_, o2, h35.of (by rw [a2 35 (by decide), o1 35 (by decide)]), ?_, by rw [a2 19 (by decide), ← e1, ux_i _ _ _ _ (by decide), ux_i _ _ _ _ (by decide)]⟩
      · rw [hpn]
        exact st_bnd (st_be e1 (st_bnd a1))
      · unfold gvX
        dsimp only
        rw [a2 19 (by decide), ← e1]
        refine ⟨by rw [ux_i _ _ _ _ (by decide), ux_s], by rw [ux_s], a3, hpn, hp⟩
    have enn : i32 (p.length : Int) = i32 (n : Int) := by rw [hpn]
    rw [x6_gives, x6_gives_B]
    cases b with
    | none =>
      obtain ⟨τ', a1, a2, a3, a4⟩ := new
      unfold gvX at hb
      dsimp only at hb
      refine ⟨τ', ?_, a2, a3, a4⟩
      exact st_bind (sayings_ev hct) (st_t enn (st_bnd (st_t (by dsimp only; rw [hb]; exact i32_0) a1)))
    | some r0 =>
      have hb' := hb
      unfold gvX at hb'
      dsimp only at hb'
      obtain ⟨b1, b2, b3, b4⟩ := hb'
      have hw0 := hws r0 0 (by rw [b4.1]; omega) b4.2
      rw [b4.1] at hw0
      have n55 : ¬ i32 (τ 19 5) = 0 := by rw [b1]; exact n10
      unfold wbt
      rw [better_some]
      by_cases c : τ 19 6 < wsF wl 0 p
      · rw [if_pos (by rw [b2] at c; omega)]
        obtain ⟨τ', a1, a2, a3, a4⟩ := new
        refine ⟨τ', ?_, a2, a3, a4⟩
        refine st_bind (sayings_ev hct) (st_t enn (st_bnd (st_f n55 (st_t ?_ a1))))
        dsimp only
        rw [it, b2, i64_id (by omega) (by omega), ← b2]; exact c
      · rw [if_neg (by rw [b2] at c; omega)]
        refine ⟨τ, ?_, onx.rf, h35, hb, rfl⟩
        refine st_bind (sayings_ev hct) (st_t enn (st_bnd (st_f n55 (st_f ?_ rfl))))
        dsimp only
        rw [it, b2, i64_id (by omega) (by omega), ← b2]; exact c
  | succ r ih =>
    intro m p left τ b hm hpr hl hbl hp hct hg h35 hb
    obtain ⟨m, rfl⟩ : ∃ g, m = g + 1 := ⟨m - 1, by omega⟩
    have fu := FU_ge
    have hpn : p.length < n := by omega
    have ip : i32 (p.length : Int) = p.length := i32_id (by omega) (by omega)
    have okp : ok 6 (p.length : Int) := by unfold ok; rw [ip]; omega
    have inner : ∀ (k fuel : Nat) (t : XS) (b' : Option (List Int)), k ≤ nv → k < fuel → onx [19, 34, 35] τ t → holdsX t 35 p → gvX t n nv wl b' → t 19 4 = τ 19 4 →
        ∃ τ', x6_gives_B_L71 (x6_gives m) (fun (s32 : XS) => some (0, s32)) fuel p.length left (wsF wl 0 p) ((nv : Int) - k) t = some (0, τ') ∧ onx [19, 34, 35] τ τ' ∧ holdsX τ' 35 p ∧ gvX τ' n nv wl ((rwF nv (cbF cn of) (rws nv (cbF cn of) r) p k).foldl (wbt wl) b') ∧ τ' 19 4 = τ 19 4 := by
      intro k
      induction k with
      | zero =>
        intro fuel t b' hk hf ho h35 hb h4
        obtain ⟨g, rfl⟩ : ∃ g, fuel = g + 1 := ⟨fuel - 1, by omega⟩
        refine ⟨t, ?_, ho, h35, hb, h4⟩
        rw [x6_gives_B_L71]
        refine st_bind (verbs_ev (hct.kept ho stand_giv)) (st_t ?_ rfl)
        dsimp only
        rw [show (nv : Int) - ((0 : Nat) : Int) = nv by omega]
        exact Int.le_refl _
      | succ k ihk =>
        intro fuel t b' hk hf ho h35 hb h4
        obtain ⟨g, rfl⟩ : ∃ g, fuel = g + 1 := ⟨fuel - 1, by omega⟩
        have hctt := hct.kept ho stand_giv
        have hgt := hg.kept hn ho
        obtain ⟨v, ev0⟩ : ∃ v : Int, (nv : Int) - ((k : Int) + 1) = v := ⟨_, rfl⟩
        have ev1 : (nv : Int) - ((k + 1 : Nat) : Int) = v := by omega
        have ev2 : v + 1 = (nv : Int) - (k : Int) := by omega
        have hv : 0 ≤ v ∧ v < nv := by omega
        have iv : i32 v = v := i32_id (by omega) (by omega)
        have okv : ok 7 v := by unfold ok; rw [iv]; omega
        have nle : ¬ i32 (nv : Int) ≤ i32 v := by rw [iv, i32_id (by omega) (by omega)]; omega
        have hh := hasb_ev t hl (o := v) (by omega)
        have hbv := hbl v hv.1 (by omega)
        rw [ev1, x6_gives_B_L71, rwF, ev0, List.foldl_append]
        by_cases c1 : bit left v = true
        · rw [c1] at hh hbv
          have q1 : bit of v = true := by cases h : bit of v with | true => rfl | false => rw [h] at hbv; cases hbv
          have q2 : p.contains v = false := by cases h : p.contains v with | false => rfl | true => rw [h, q1] at hbv; cases hbv
          obtain ⟨w1, w2, w3⟩ := hgt p.length v (by omega) (by omega) hv.1 hv.2
          by_cases c2 : cn p.length v = true
          · have hcb : cbF cn of p v = true := by unfold cbF; rw [q1, c2, q2]; rfl
            rw [if_pos hcb]
            obtain ⟨t1, e1⟩ : ∃ t1, ux t 35 (p.length : Int) v = t1 := ⟨_, rfl⟩
            have o1 : onx [19, 34, 35] t t1 := by rw [← e1]; exact onx.up (by decide)
            have hclr := clr_b hl (o := v) ⟨hv.1, by omega⟩
            obtain ⟨t2, a1, a2, a3, a4, a5⟩ := ih m (p ++ [v]) (left - b2i (bit left v) * 2 ^ v.toNat) t1 b' (by omega) (by simp; omega) ⟨hclr.1, by omega⟩ (fun w h0 h1 => by
              rw [clr_bit hl ⟨hv.1, by omega⟩ ⟨h0, h1⟩, hbl w h0 h1]
              have : (p ++ [v]).contains w = (p.contains w || decide (w = v)) := by
                simp only [List.contains_eq_mem, List.mem_append, List.mem_singleton]
                exact Bool.decide_or _ _
              rw [this]
              by_cases e : w = v
              · simp [e]
              · simp [e]) (fun u hu => by
              rcases List.mem_append.mp hu with hu | hu
              · exact hp u hu
              · rw [List.mem_singleton] at hu; rw [hu]; exact hv) (hctt.kept o1 stand_giv) (hgt.kept hn o1) (by rw [← e1]; exact holdsX_snoc h35 v) (hb.kp (by rw [← e1]; exact ux_cell (by decide)) (by rw [← e1]; exact congrFun (ux_cell (by decide)) _) (by rw [← e1]; exact congrFun (ux_cell (by decide)) _))
            obtain ⟨τ', b1, b2, b3, b4⟩ := ihk g t2 _ (by omega) (by omega) ((ho.tr o1).tr a2) (holdsX_pre a3) a4 (by rw [a5, ← e1, ux_cell (by decide)]; exact h4)
            refine ⟨τ', ?_, b2, b3, b4⟩
            rw [← ev2] at b1
            have k1 : t1 (27 + 1 + (p.length : Int)) v = wl p.length v := by rw [← e1, ux_cell (by omega)]; exact w2
            refine st_bind (verbs_ev hctt) (st_f nle (st_bind hh (st_bnd (st_f n10 (st_gd okp (st_gd okv (st_f ?_ (st_gd okp (st_be (e' := t1) ?_ (st_gd okp (st_gd okv (st_bind (z := (0, t2)) ?_ (st_bnd b1)))))))))))))
            · dsimp only
              rw [ip, iv, w1, c2]; exact n10
            · dsimp only
              rw [ip]; exact e1
            · rw [ip, iv, k1, clr_ev hl ⟨hv.1, by omega⟩]
              rw [wsF_snoc, List.length_append, List.length_singleton, show ((p.length + 1 : Nat) : Int) = (p.length : Int) + 1 by omega] at a1
              exact a1
          · have c2' : cn p.length v = false := by cases h : cn p.length v with | false => rfl | true => exact absurd h c2
            have hcb : ¬ cbF cn of p v = true := by unfold cbF; rw [c2']; simp
            rw [if_neg hcb, List.foldl_nil]
            obtain ⟨τ', b1, b2, b3, b4⟩ := ihk g t b' (by omega) (by omega) ho h35 hb h4
            refine ⟨τ', ?_, b2, b3, b4⟩
            rw [← ev2] at b1
            refine st_bind (verbs_ev hctt) (st_f nle (st_bind hh (st_bnd (st_f n10 (st_gd okp (st_gd okv (st_t ?_ (st_bnd b1))))))))
            dsimp only
            rw [ip, iv, w1, c2']; exact i32_0
        · have c1' : bit left v = false := by cases h : bit left v with | false => rfl | true => exact absurd h c1
          rw [c1'] at hh hbv
          have hcb : ¬ cbF cn of p v = true := by
            unfold cbF
            intro h
            simp only [Bool.and_eq_true, Bool.not_eq_true'] at h
            rw [h.1.1, h.2] at hbv
            cases hbv
          rw [if_neg hcb, List.foldl_nil]
          obtain ⟨τ', b1, b2, b3, b4⟩ := ihk g t b' (by omega) (by omega) ho h35 hb h4
          refine ⟨τ', ?_, b2, b3, b4⟩
          rw [← ev2] at b1
          exact st_bind (verbs_ev hctt) (st_f nle (st_bind hh (st_bnd (st_t i32_0 (st_bnd b1)))))
    obtain ⟨τ', a1, a2, a3, a4⟩ := inner nv FU τ b (Nat.le_refl _) (by omega) onx.rf h35 hb rfl
    refine ⟨τ', ?_, a2, a3, a4⟩
    rw [x6_gives, x6_gives_B]
    refine st_bind (sayings_ev hct) (st_f ?_ (st_bnd ?_))
    · dsimp only
      rw [ip, i32_id (by omega) (by omega)]; omega
    · rw [Int.sub_self] at a1; exact a1
theorem x6_in_ev (hn : n ≤ 6) (hnv : nv ≤ 7) (hof : 0 ≤ of ∧ of < 128) (hct : cty τ n nv) (hg : xgR τ n nv cn wl) : ∃ τ', x6_in of τ = some (19, τ') ∧ onx [19, 34, 35] τ τ' ∧ τ' 19 4 = of ∧ gvX τ' n nv wl (gvF n nv cn wl of) := by
  obtain ⟨τ1, e1⟩ : ∃ τ1, ux (ux τ 19 4 of) 19 5 0 = τ1 := ⟨_, rfl⟩
  have o1 : onx [19, 34, 35] τ τ1 := by rw [← e1]; exact (onx.up (by decide)).tr (onx.up (by decide))
  have f4 : τ1 19 4 = of := by rw [← e1, ux_i _ _ _ _ (by decide), ux_s]
  have f5 : τ1 19 5 = 0 := by rw [← e1, ux_s]
  obtain ⟨τ2, a1, a2, a3, a4, a5⟩ := x_giv (of := of) (cn := cn) (wl := wl) hn hnv n 9 [] of τ1 none (by omega) (by simp) hof (fun v _ _ => by simp) (fun u hu => by cases hu) (hct.kept o1 stand_giv) (hg.kept hn o1) (fun i x hx => by simp at hx) f5
  refine ⟨τ2, ?_, o1.tr a2, by rw [a5]; exact f4, a4⟩
  unfold x6_in
  refine st_bnd (st_be e1 (st_bind (z := (0, τ2)) ?_ rfl))
  rw [f4]
  rw [show ((([] : List Int).length : Nat) : Int) = 0 from rfl, show wsF wl 0 [] = 0 from rfl] at a1
  exact a1
end
