set_option maxRecDepth 100000
/-! LAYER 2: rows that clash least, of both -/
def clF (cn : Int → Int → Bool) : Nat → List Int → Int
  | _, [] => 0
  | o, v :: r => b2i (!(cn o v)) + clF cn (o + 1) r
theorem clF_b (cn : Int → Int → Bool) : ∀ (r : List Int) (o : Nat), 0 ≤ clF cn o r ∧ clF cn o r ≤ r.length
  | [], _ => by simp [clF]
  | v :: r, o => by
    have h := clF_b cn r (o + 1)
    have := b2i_b (!(cn o v))
    rw [clF, List.length_cons]
    omega
theorem clF_app (cn : Int → Int → Bool) : ∀ (p q : List Int) (o : Nat), clF cn o (p ++ q) = clF cn o p + clF cn (o + p.length) q
  | [], q, o => by simp [clF]
  | u :: p, q, o => by
    rw [List.cons_append, clF, clF, clF_app cn p q, List.length_cons, show o + 1 + p.length = o + (p.length + 1) by omega]
    omega
theorem clF_snoc (cn : Int → Int → Bool) (p : List Int) (v : Int) : clF cn 0 (p ++ [v]) = clF cn 0 p + b2i (!(cn p.length v)) := by
  rw [clF_app, clF, clF, Nat.zero_add]
  omega
theorem rwF_sub {nv : Nat} {cb : List Int → Int → Bool} {f : List Int → List (List Int)} {p : List Int} {v : Int} : ∀ k, k ≤ nv → (nv : Int) - k ≤ v → v < nv → cb p v = true → ∀ q ∈ f (p ++ [v]), q ∈ rwF nv cb f p k
  | 0, _, h1, h2, _, _, _ => by omega
  | k + 1, hk, h1, h2, hc, q, hq => by
    rw [rwF]
    by_cases e : v = (nv : Int) - ((k : Int) + 1)
    · rw [← e, if_pos hc]
      exact List.mem_append_left _ hq
    · exact List.mem_append_right _ (rwF_sub k (by omega) (by omega) h2 hc q hq)
theorem rws_pre {nv : Nat} {cb : List Int → Int → Bool} : ∀ (r : Nat) (p q : List Int), q ∈ rws nv cb r p → ∃ t, q = p ++ t
  | 0, p, q, h => by
    rw [rws] at h
    rw [List.mem_singleton] at h
    exact ⟨[], by rw [h]; simp⟩
  | r + 1, p, q, h => by
    rw [rws] at h
    obtain ⟨v, -, -, h3⟩ := rwF_mem nv (Nat.le_refl _) h
    obtain ⟨t, ht⟩ := rws_pre r _ q h3
    exact ⟨v :: t, by rw [ht]; simp⟩
/-- any verb of the sack -/
def tru : Int → Int → Bool := fun _ _ => true
def rmL (nv : Nat) (of : Int) (p : List Int) : List Int := (rng nv).filter (cbF tru of p)
theorem rmL_snoc (nv : Nat) (of : Int) (p : List Int) (v : Int) : rmL nv of (p ++ [v]) = (rmL nv of p).filter fun q => q != v := by
  unfold rmL
  rw [List.filter_filter]
  congr 1
  funext w
  unfold cbF tru
  have : (p ++ [v]).contains w = (p.contains w || decide (w = v)) := by
    simp only [List.contains_eq_mem, List.mem_append, List.mem_singleton]
    exact Bool.decide_or _ _
  rw [this]
  by_cases e : w = v
  · simp [e]
  · simp [e]
theorem rmL_len {nv : Nat} {of : Int} {p : List Int} {v : Int} (hv : 0 ≤ v ∧ v < nv) (hc : cbF tru of p v = true) : (rmL nv of (p ++ [v])).length + 1 = (rmL nv of p).length := by
  rw [rmL_snoc]
  exact filt_len (List.Pairwise.filter _ (rng_nodup nv)) (List.mem_filter.mpr ⟨mem_rng.mpr hv, hc⟩)
theorem rows_some {nv : Nat} {of : Int} : ∀ (r : Nat) (p : List Int), (rws nv (cbF tru of) r p ≠ [] ↔ r ≤ (rmL nv of p).length)
  | 0, p => by rw [rws]; simp
  | r + 1, p => by
    rw [rws]
    constructor
    · intro h
      obtain ⟨q, hq⟩ := List.exists_mem_of_ne_nil _ h
      obtain ⟨v, h1, h2, h3⟩ := rwF_mem nv (Nat.le_refl _) hq
      have := (rows_some r (p ++ [v])).mp (fun e => by rw [e] at h3; cases h3)
      have := rmL_len h1 h2
      omega
    · intro h
      have hne : rmL nv of p ≠ [] := fun e => by rw [e] at h; simp at h
      obtain ⟨v, hv⟩ := List.exists_mem_of_ne_nil _ hne
      obtain ⟨v1, v2⟩ := List.mem_filter.mp hv
      have v3 := mem_rng.mp v1
      have hl := rmL_len v3 v2
      have := (rows_some (nv := nv) (of := of) r (p ++ [v])).mpr (by omega)
      obtain ⟨q, hq⟩ := List.exists_mem_of_ne_nil _ this
      have := rwF_sub (nv := nv) (cb := cbF tru of) (f := rws nv (cbF tru of) r) (p := p) (v := v) nv (Nat.le_refl _) (by omega) v3.2 v2 q hq
      intro e
      rw [e] at this
      cases this
theorem pop_rm : ∀ (n : Fin 8) (a : Fin 128), (∀ o : Fin 7, n.val ≤ o.val → bit a.val o.val = false) → ((rmL n.val a.val []).length : Int) = popF a.val := by decide +kernel
section
variable {τ τ' : XS} {s s' : MS} {n nv : Nat} {of : Int} {cn : Int → Int → Bool} {wl : Int → Int → Int}
/-- the fewest clashes so far, as the system holds it -/
def spX (τ : XS) (n nv : Nat) (cn : Int → Int → Bool) (b : Option (List Int)) : Prop := match b with
  | none => τ 19 7 = 100000000
  | some r => τ 19 7 = clF cn 0 r ∧ holdsX τ 34 r ∧ rowOk n nv r
theorem spX.kp {b : Option (List Int)} (h : spX τ n nv cn b) (h1 : τ' 34 = τ 34) (h2 : τ' 19 7 = τ 19 7) : spX τ' n nv cn b := by
  cases b with
  | none => unfold spX at *; dsimp only at *; rw [h2]; exact h
  | some r => unfold spX at *; dsimp only at *; rw [h2]; exact ⟨h.1, h.2.1.of h1, h.2.2⟩
theorem spl28 (rc : Int → Int → Int → XS → Option (Int × XS)) {r : List Int} (hr : r.length = n) (hn : n ≤ 6) (K : XS → Option (Int × XS)) : ∀ (d fuel i : Nat) (τ : XS), holdsX τ 35 r → holdsX τ 34 (r.take i) → i + d = n → d < fuel → ∃ τ', x6_spills_B_L28 rc K fuel n i τ = K τ' ∧ onx [34] τ τ' ∧ holdsX τ' 34 r := by
  intro d
  induction d with
  | zero =>
    intro fuel i τ h35 h34 hi hf
    obtain ⟨g, rfl⟩ : ∃ g, fuel = g + 1 := ⟨fuel - 1, by omega⟩
    refine ⟨τ, ?_, onx.rf, by rw [List.take_of_length_le (by omega)] at h34; exact h34⟩
    rw [x6_spills_B_L28]
    refine st_t ?_ rfl
    rw [i32_id (by omega) (by omega), i32_id (by omega) (by omega)]
    omega
  | succ d ih =>
    intro fuel i τ h35 h34 hi hf
    obtain ⟨g, rfl⟩ : ∃ g, fuel = g + 1 := ⟨fuel - 1, by omega⟩
    have hl : i < r.length := by omega
    have e : τ 35 i = r[i] := h35 i _ (List.getElem?_eq_getElem hl)
    have ii : i32 (i : Int) = i := i32_id (by omega) (by omega)
    have oki : ok 6 (i : Int) := by unfold ok; rw [ii]; omega
    obtain ⟨τ1, e1⟩ : ∃ τ1, ux τ 34 (i : Int) r[i] = τ1 := ⟨_, rfl⟩
    have o1 : onx [34] τ τ1 := by rw [← e1]; exact onx.up (by decide)
    have h34' : holdsX τ1 34 (r.take (i + 1)) := by
      have := holdsX_snoc h34 r[i]
      rw [List.length_take, Nat.min_eq_left (by omega), e1] at this
      rw [List.take_succ_eq_append_getElem hl]
      exact this
    obtain ⟨τ', a1, a2, a3⟩ := ih g (i + 1) τ1 (h35.of (o1 35 (by decide))) h34' (by omega) (by omega)
    refine ⟨τ', ?_, o1.tr a2, a3⟩
    rw [x6_spills_B_L28]
    refine st_f ?_ (st_gd oki (st_gd oki (st_be (e' := τ1) ?_ (st_bnd ?_))))
    · rw [ii, i32_id (by omega) (by omega)]; omega
    · rw [ii, e]; exact e1
    · rw [show (i : Int) + 1 = ((i + 1 : Nat) : Int) by omega]; exact a1
theorem x_spl (hn : n ≤ 6) (hnv : nv ≤ 7) : ∀ (r m : Nat) (p : List Int) (left : Int) (τ : XS) (b : Option (List Int)), r < m → p.length + r = n → (0 ≤ left ∧ left < 128) → (∀ v : Int, 0 ≤ v → v < 7 → bit left v = (bit of v && !(p.contains v))) → (∀ u ∈ p, 0 ≤ u ∧ u < nv) → cty τ n nv → xgR τ n nv cn wl → holdsX τ 35 p → spX τ n nv cn b →
    ∃ τ', x6_spills m p.length left (clF cn 0 p) τ = some (0, τ') ∧ onx [19, 34, 35] τ τ' ∧ holdsX τ' 35 p ∧ spX τ' n nv cn ((rws nv (cbF tru of) r p).foldl (better (clF cn 0)) b) := by
  intro r
  induction r with
  | zero =>
    intro m p left τ b hm hpr hl hbl hp hct hg h35 hb
    obtain ⟨m, rfl⟩ : ∃ g, m = g + 1 := ⟨m - 1, by omega⟩
    have hfu : n < FU := by have := FU_ge; omega
    have hcp := clF_b cn p 0
    have hpn : p.length = n := by omega
    rw [rws, List.foldl_cons, List.foldl_nil, x6_spills, x6_spills_B]
    have enn : i32 (p.length : Int) = i32 (n : Int) := by rw [hpn]
    by_cases c : clF cn 0 p < τ 19 7
    · have hb7 : τ 19 7 ≤ 100000000 := by
        cases b with
        | none => rw [show τ 19 7 = 100000000 from hb]; omega
        | some r0 => rw [hb.1]; have := (clF_b cn r0 0).2; have := hb.2.2.1; omega
      have lt : i32 (clF cn 0 p) < i32 (τ 19 7) := by rw [i32_id (by omega) (by omega), i32_id (by omega) (by omega)]; exact c
      have e : better (clF cn 0) b p = some p := by
        cases b with
        | none => rfl
        | some r0 => rw [better_some, if_pos (by rw [← hb.1]; exact c)]
      rw [e]
      obtain ⟨τ1, e1⟩ : ∃ τ1, ux τ 19 7 (clF cn 0 p) = τ1 := ⟨_, rfl⟩
      have o1 : onx [19] τ τ1 := by rw [← e1]; exact onx.up (by decide)
      obtain ⟨τ2, a1, a2, a3⟩ := spl28 (n := n) (x6_spills m) hpn hn (fun (s53 : XS) => some (0, s53)) n FU 0 τ1 (h35.of (o1 35 (by decide))) (fun i x hx => by simp at hx) (by omega) hfu
      refine ⟨τ2, ?_, (o1.mono (by simp)).tr (a2.mono (by simp)), h35.of (by rw [a2 35 (by decide), o1 35 (by decide)]), ?_⟩
      · refine st_t lt (st_bind (sayings_ev hct) (st_t enn (st_be e1 (st_bnd ?_))))
        rw [hpn]; exact a1
      · unfold spX
        dsimp only
        rw [a2 19 (by decide), ← e1, ux_s]
        exact ⟨rfl, a3, hpn, hp⟩
    · cases b with
      | none =>
        rw [show τ 19 7 = 100000000 from hb] at c
        omega
      | some r0 =>
        have hb0 := (clF_b cn r0 0)
        have hbr := hb.2.2.1
        rw [hb.1] at c
        rw [better_some, if_neg c]
        refine ⟨τ, st_f ?_ rfl, onx.rf, h35, hb⟩
        rw [hb.1, i32_id (by omega) (by omega), i32_id (by omega) (by omega)]; exact c
  | succ r ih =>
    intro m p left τ b hm hpr hl hbl hp hct hg h35 hb
    obtain ⟨m, rfl⟩ : ∃ g, m = g + 1 := ⟨m - 1, by omega⟩
    have hpn : p.length < n := by omega
    have hcp := clF_b cn p 0
    have ip : i32 (p.length : Int) = p.length := i32_id (by omega) (by omega)
    have okp : ok 6 (p.length : Int) := by unfold ok; rw [ip]; omega
    have hb7 : τ 19 7 ≤ 100000000 ∧ 0 ≤ τ 19 7 := by
      cases b with
      | none => rw [show τ 19 7 = 100000000 from hb]; omega
      | some r0 => rw [hb.1]; have := (clF_b cn r0 0); have := hb.2.2.1; omega
    by_cases c : clF cn 0 p < τ 19 7
    · have lt : i32 (clF cn 0 p) < i32 (τ 19 7) := by rw [i32_id (by omega) (by omega), i32_id (by omega) (by omega)]; exact c
      have inner : ∀ (k fuel : Nat) (t : XS) (b' : Option (List Int)), k ≤ nv → k < fuel → onx [19, 34, 35] τ t → holdsX t 35 p → spX t n nv cn b' →
          ∃ τ', x6_spills_B_L58 (x6_spills m) (fun (s41 : XS) => some (0, s41)) fuel p.length left (clF cn 0 p) ((nv : Int) - k) t = some (0, τ') ∧ onx [19, 34, 35] τ τ' ∧ holdsX τ' 35 p ∧ spX τ' n nv cn ((rwF nv (cbF tru of) (rws nv (cbF tru of) r) p k).foldl (better (clF cn 0)) b') := by
        intro k
        induction k with
        | zero =>
          intro fuel t b' hk hf ho h35 hb
          obtain ⟨g, rfl⟩ : ∃ g, fuel = g + 1 := ⟨fuel - 1, by omega⟩
          refine ⟨t, ?_, ho, h35, hb⟩
          rw [x6_spills_B_L58]
          refine st_bind (verbs_ev (hct.kept ho stand_giv)) (st_t ?_ rfl)
          dsimp only
          rw [show (nv : Int) - ((0 : Nat) : Int) = nv by omega]
          exact Int.le_refl _
        | succ k ihk =>
          intro fuel t b' hk hf ho h35 hb
          obtain ⟨g, rfl⟩ : ∃ g, fuel = g + 1 := ⟨fuel - 1, by omega⟩
          have hctt := hct.kept ho stand_giv
          have hgt := hg.kept hn ho
          obtain ⟨v, ev0⟩ : ∃ v : Int, (nv : Int) - ((k : Int) + 1) = v := ⟨_, rfl⟩
          have ev1 : (nv : Int) - ((k + 1 : Nat) : Int) = v := by omega
          have ev2 : v + 1 = (nv : Int) - (k : Int) := by omega
          have hv : 0 ≤ v ∧ v < nv := by omega
          have iv : i32 v = v := i32_id (by omega) (by omega)
          have okv : ok 7 v := by unfold ok; rw [iv]; omega
          have nle : ¬ i32 (nv : Int) ≤ i32 v := by rw [iv, i32_id (by omega) (by omega)]; omega
          have hh := hasb_ev t hl (o := v) (by omega)
          have hbv := hbl v hv.1 (by omega)
          rw [ev1, x6_spills_B_L58, rwF, ev0, List.foldl_append]
          by_cases c1 : bit left v = true
          · rw [c1] at hh hbv
            have q1 : bit of v = true := by cases h : bit of v with | true => rfl | false => rw [h] at hbv; cases hbv
            have q2 : p.contains v = false := by cases h : p.contains v with | false => rfl | true => rw [h, q1] at hbv; cases hbv
            obtain ⟨w1, -, -⟩ := hgt p.length v (by omega) (by omega) hv.1 hv.2
            have hcb : cbF tru of p v = true := by unfold cbF tru; rw [q1, q2]; rfl
            rw [if_pos hcb]
            obtain ⟨t1, e1⟩ : ∃ t1, ux t 35 (p.length : Int) v = t1 := ⟨_, rfl⟩
            have o1 : onx [19, 34, 35] t t1 := by rw [← e1]; exact onx.up (by decide)
            have hclr := clr_b hl (o := v) ⟨hv.1, by omega⟩
            obtain ⟨t2, a1, a2, a3, a4⟩ := ih m (p ++ [v]) (left - b2i (bit left v) * 2 ^ v.toNat) t1 b' (by omega) (by simp; omega) ⟨hclr.1, by omega⟩ (fun w h0 h1 => by
              rw [clr_bit hl ⟨hv.1, by omega⟩ ⟨h0, h1⟩, hbl w h0 h1]
              have : (p ++ [v]).contains w = (p.contains w || decide (w = v)) := by
                simp only [List.contains_eq_mem, List.mem_append, List.mem_singleton]
                exact Bool.decide_or _ _
              rw [this]
              by_cases e : w = v
              · simp [e]
              · simp [e]) (fun u hu => by
              rcases List.mem_append.mp hu with hu | hu
              · exact hp u hu
              · rw [List.mem_singleton] at hu; rw [hu]; exact hv) (hctt.kept o1 stand_giv) (hgt.kept hn o1) (by rw [← e1]; exact holdsX_snoc h35 v) (hb.kp (by rw [← e1]; exact ux_cell (by decide)) (by rw [← e1]; exact congrFun (ux_cell (by decide)) _))
            obtain ⟨τ', b1, b2, b3, b4⟩ := ihk g t2 _ (by omega) (by omega) ((ho.tr o1).tr a2) (holdsX_pre a3) a4
            refine ⟨τ', ?_, b2, b3, b4⟩
            rw [← ev2] at b1
            have k1 : t1 (20 + 1 + (p.length : Int)) v = b2i (cn p.length v) := by rw [← e1, ux_cell (by omega)]; exact w1
            rw [clF_snoc, List.length_append, List.length_singleton, show ((p.length + 1 : Nat) : Int) = (p.length : Int) + 1 by omega] at a1
            rw [← clr_ev hl ⟨hv.1, by omega⟩] at a1
            have e1' : ux t 35 (i32 (p.length : Int)) v = t1 := by rw [ip]; exact e1
            cases hcn : cn p.length v with
            | true =>
              rw [hcn] at k1 a1
              refine st_bind (verbs_ev hctt) (st_f nle (st_bind hh (st_bnd (st_f n10 (st_gd okp (st_be e1' (st_gd okp (st_gd okv (st_bnd (st_f ?_ (st_bind a1 (st_bnd b1))))))))))))
              rw [ip, iv, k1]; exact n10
            | false =>
              rw [hcn] at k1 a1
              refine st_bind (verbs_ev hctt) (st_f nle (st_bind hh (st_bnd (st_f n10 (st_gd okp (st_be e1' (st_gd okp (st_gd okv (st_bnd (st_t ?_ (st_bind a1 (st_bnd b1))))))))))))
              rw [ip, iv, k1]; exact i32_0
          · have c1' : bit left v = false := by cases h : bit left v with | false => rfl | true => exact absurd h c1
            rw [c1'] at hh hbv
            have hcb : ¬ cbF tru of p v = true := by
              unfold cbF
              intro h
              simp only [Bool.and_eq_true, Bool.not_eq_true'] at h
              rw [h.1.1, h.2] at hbv
              cases hbv
            rw [if_neg hcb, List.foldl_nil]
            obtain ⟨τ', b1, b2, b3, b4⟩ := ihk g t b' (by omega) (by omega) ho h35 hb
            refine ⟨τ', ?_, b2, b3, b4⟩
            rw [← ev2] at b1
            exact st_bind (verbs_ev hctt) (st_f nle (st_bind hh (st_bnd (st_t i32_0 (st_bnd b1)))))
      obtain ⟨τ', a1, a2, a3, a4⟩ := inner nv FU τ b (Nat.le_refl _) (by have := FU_ge; omega) onx.rf h35 hb
      refine ⟨τ', ?_, a2, a3, a4⟩
      rw [x6_spills, x6_spills_B]
      refine st_t lt (st_bind (sayings_ev hct) (st_f ?_ (st_bnd ?_)))
      · dsimp only
        rw [ip, i32_id (by omega) (by omega)]; omega
      · rw [Int.sub_self] at a1; exact a1
    · cases b with
      | none =>
        rw [show τ 19 7 = 100000000 from hb] at c
        omega
      | some r0 =>
        have hb1 := hb.1
        refine ⟨τ, ?_, onx.rf, h35, ?_⟩
        · rw [x6_spills, x6_spills_B]
          refine st_f ?_ rfl
          rw [i32_id (by omega) (by omega), i32_id (by omega) (by omega)]; exact c
        · rw [better_skip]
          · exact hb
          · intro q hq
            obtain ⟨t, rfl⟩ := rws_pre _ _ _ hq
            rw [hb1] at c
            rw [clF_app]
            have := (clF_b cn t (0 + p.length)).1
            omega
theorem spilt_x (hn : n ≤ 6) (hnv : nv ≤ 7) (hof : 0 ≤ of ∧ of < 128) (h4 : τ 19 4 = of) (hct : cty τ n nv) (hg : xgR τ n nv cn wl) : ∃ τ', x6_spilt τ = some (19, τ') ∧ onx [19, 34, 35] τ τ' ∧ spX τ' n nv cn ((rws nv (cbF tru of) n []).foldl (better (clF cn 0)) none) := by
  obtain ⟨τ1, e1⟩ : ∃ τ1, ux τ 19 7 100000000 = τ1 := ⟨_, rfl⟩
  have o1 : onx [19, 34, 35] τ τ1 := by rw [← e1]; exact onx.up (by decide)
  have f4 : τ1 19 4 = of := by rw [← e1, ux_i _ _ _ _ (by decide)]; exact h4
  have f7 : τ1 19 7 = 100000000 := by rw [← e1, ux_s]
  obtain ⟨τ2, a1, a2, a3, a4⟩ := x_spl (of := of) (cn := cn) (wl := wl) hn hnv n 9 [] of τ1 none (by omega) (by simp) hof (fun v _ _ => by simp) (fun u hu => by cases hu) (hct.kept o1 stand_giv) (hg.kept hn o1) (fun i x hx => by simp at hx) f7
  refine ⟨τ2, ?_, o1.tr a2, a4⟩
  unfold x6_spilt
  refine st_be e1 (st_bind (z := (0, τ2)) ?_ rfl)
  rw [f4]
  rw [show ((([] : List Int).length : Nat) : Int) = 0 from rfl, show clF cn 0 [] = 0 from rfl] at a1
  exact a1
end
