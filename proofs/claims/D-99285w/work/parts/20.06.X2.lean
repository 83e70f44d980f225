set_option maxRecDepth 100000
/-! the system: the shortest round -/
def holdsX (τ : XS) (c : Int) (l : List Int) : Prop := ∀ (i : Nat) (x : Int), l[i]? = some x → τ c i = x
theorem holdsX.of {τ τ' : XS} {c : Int} {l : List Int} (h : holdsX τ c l) (e : τ' c = τ c) : holdsX τ' c l := fun i x hx => by rw [e]; exact h i x hx
theorem holdsX_snoc {τ : XS} {c : Int} {l : List Int} (h : holdsX τ c l) (x : Int) : holdsX (ux τ c l.length x) c (l ++ [x]) := by
  intro i y hy
  by_cases c : i < l.length
  · rw [List.getElem?_append_left c] at hy
    rw [ux_i _ _ _ _ (by omega)]
    exact h i y hy
  · rw [List.getElem?_append_right (by omega)] at hy
    by_cases c2 : i = l.length
    · subst c2; simp at hy; subst hy; simp [ux]
    · rw [List.getElem?_eq_none (by simp; omega)] at hy; cases hy
def endF (cl : Int → Int) : Int → List Int → Int
  | x, [] => x
  | _, s :: l => endF cl (cl s) l
def tms (cl rw : Int → Int) : Int → Int → Int → List Int → List Int
  | _, _, _, [] => []
  | t, x, y, s :: l => (t + stp cl rw x y s) :: tms cl rw (t + stp cl rw x y s) (cl s) (rw s) l
theorem lenF_app (cl rw : Int → Int) : ∀ (p q : List Int) (x y : Int), lenF cl rw x y (p ++ q) = lenF cl rw x y p + lenF cl rw (endF cl x p) (endF rw y p) q
  | [], q, x, y => by simp [lenF, endF]
  | a :: p, q, x, y => by
    rw [List.cons_append, lenF, lenF, endF, endF, lenF_app cl rw p q]
    omega
theorem endF_snoc (cl : Int → Int) : ∀ (p : List Int) (x o : Int), endF cl x (p ++ [o]) = cl o
  | [], _, _ => rfl
  | a :: p, x, o => by rw [List.cons_append, endF]; exact endF_snoc cl p _ o
theorem tms_len (cl rw : Int → Int) : ∀ (p : List Int) (t x y : Int), (tms cl rw t x y p).length = p.length
  | [], _, _, _ => rfl
  | a :: p, t, x, y => by rw [tms, List.length_cons, List.length_cons, tms_len cl rw p]
theorem tms_snoc (cl rw : Int → Int) : ∀ (p : List Int) (t x y o : Int), tms cl rw t x y (p ++ [o]) = tms cl rw t x y p ++ [t + lenF cl rw x y (p ++ [o])]
  | [], t, x, y, o => by simp [tms, lenF]
  | a :: p, t, x, y, o => by
    rw [List.cons_append, tms, tms, tms_snoc cl rw p, List.cons_append, lenF]
    congr 2
    congr 1
    omega
theorem stp_nn (cl rw : Int → Int) (x y s : Int) : 0 ≤ stp cl rw x y s := by unfold stp; omega
theorem lenF_nn (cl rw : Int → Int) : ∀ (l : List Int) (x y : Int), 0 ≤ lenF cl rw x y l
  | [], _, _ => by simp [lenF]
  | a :: l, x, y => by have := stp_nn cl rw x y a; have := lenF_nn cl rw l (cl a) (rw a); rw [lenF]; omega
theorem better_skip {f : List Int → Int} {l0 : List Int} : ∀ (ls : List (List Int)), (∀ q ∈ ls, f l0 ≤ f q) → ls.foldl (better f) (some l0) = some l0
  | [], _ => rfl
  | l :: ls, h => by
    have h1 := h l List.mem_cons_self
    rw [List.foldl_cons, better_some, if_neg (by omega)]
    exact better_skip ls (fun q hq => h q (List.mem_cons_of_mem _ hq))
def rems (n : Nat) (left : Int) : List Int := (rng n).filter (bit left)
/-- what the walk holds: the best so far -/
def wkOk (cl rw : Int → Int) (n : Nat) (τ : XS) (b : Option (List Int)) : Prop := match b with
  | none => τ 14 4 = 100000000
  | some l => l.length = n ∧ τ 14 4 = lenF cl rw 0 0 l ∧ lenF cl rw 0 0 l ≤ 1000 ∧ holdsX τ 15 l ∧ ∀ (i : Nat) (x t : Int), l[i]? = some x → (tms cl rw 0 0 0 l)[i]? = some t → τ 16 x = t
theorem wkOk.of {cl rw : Int → Int} {n : Nat} {τ τ' : XS} {b : Option (List Int)} (h : wkOk cl rw n τ b) (e1 : τ' 14 4 = τ 14 4) (e2 : τ' 15 = τ 15) (e3 : τ' 16 = τ 16) : wkOk cl rw n τ' b := by
  cases b with
  | none => exact e1.trans h
  | some l =>
    obtain ⟨a, b, c, d, e⟩ := h
    exact ⟨a, e1.trans b, c, d.of e2, fun i x t h1 h2 => by rw [e3]; exact e i x t h1 h2⟩
theorem x_lay {cl rw : Int → Int} {n : Nat} (hn : n ≤ 6) (rc : Int → Int → Int → Int → Int → Int → XS → Option (Int × XS)) (a1 : Int) (k : XS → Option (Int × XS)) (p : List Int) (hp : p.length = n) (hnd : p.Nodup) (hpn : ∀ x ∈ p, 0 ≤ x ∧ x < n) (τ : XS) (h17 : holdsX τ 17 p) (h18 : holdsX τ 18 (tms cl rw 0 0 0 p)) :
    ∃ τ', x5_goes_B_L22 rc a1 k FU n 0 τ = k τ' ∧ onx [15, 16] τ τ' ∧ holdsX τ' 15 p ∧ ∀ (i : Nat) (x t : Int), p[i]? = some x → (tms cl rw 0 0 0 p)[i]? = some t → τ' 16 x = t := by
  obtain ⟨τ', h1, h2⟩ := for0 (fun f i s => x5_goes_B_L22 rc a1 k f n i s) k n (fun i t => onx [15, 16] τ t ∧ (∀ (j : Nat) (x : Int), (j : Int) < i → p[j]? = some x → t 15 j = x) ∧ ∀ (j : Nat) (x u : Int), (j : Int) < i → p[j]? = some x → (tms cl rw 0 0 0 p)[j]? = some u → t 16 x = u) (by omega) (by omega)
    (fun i t hI h0 hi => by
      obtain ⟨ho, hA, hB⟩ := hI
      have hin : i.toNat < p.length := by omega
      have ex : p[i.toNat]? = some p[i.toNat] := List.getElem?_eq_getElem hin
      have hx := hpn _ (List.getElem_mem hin)
      have hin2 : i.toNat < (tms cl rw 0 0 0 p).length := by rw [tms_len]; exact hin
      have eu : (tms cl rw 0 0 0 p)[i.toNat]? = some ((tms cl rw 0 0 0 p)[i.toNat]) := List.getElem?_eq_getElem hin2
      have e17 : t 17 i = p[i.toNat] := by
        rw [ho 17 (by decide)]
        have := h17 _ _ ex
        rw [Int.toNat_of_nonneg h0] at this
        exact this
      have e18 : t 18 i = (tms cl rw 0 0 0 p)[i.toNat] := by
        rw [ho 18 (by decide)]
        have := h18 _ _ eu
        rw [Int.toNat_of_nonneg h0] at this
        exact this
      generalize p[i.toNat] = x at *
      generalize (tms cl rw 0 0 0 p)[i.toNat] = u at *
      refine ⟨ux (ux t 15 i x) 16 x u, ⟨(ho.tr (onx.up (by decide))).tr (onx.up (by decide)), fun j y hj hy => ?_, fun j y v hj hy hv => ?_⟩, fun f => ?_⟩
      · rw [ux_c _ _ _ _ (by decide)]
        by_cases c : (j : Int) = i
        · have : j = i.toNat := by omega
          subst this
          rw [ex] at hy; cases hy
          rw [c]; simp [ux]
        · rw [ux_i _ _ _ _ c]; exact hA j y (by omega) hy
      · by_cases c : (j : Int) = i
        · have : j = i.toNat := by omega
          subst this
          rw [ex] at hy; cases hy
          rw [eu] at hv; cases hv
          simp [ux]
        · have hne : y ≠ x := fun e => by
            subst e
            have hj2 : j < p.length := by omega
            rw [List.getElem?_eq_getElem hj2] at hy
            rw [List.getElem?_eq_getElem hin] at ex
            have := (List.getElem_inj (h₀ := hj2) (h₁ := hin) hnd).mp ((Option.some.inj hy).trans (Option.some.inj ex).symm)
            omega
          rw [ux_i _ _ _ _ hne, ux_c _ _ _ _ (by decide)]
          exact hB j y v (by omega) hy hv
      · have q17 : ux t 15 i x 17 = t 17 := by funext z; rw [ux_c _ _ _ _ (by decide)]
        have q18 : ux t 15 i x 18 = t 18 := by funext z; rw [ux_c _ _ _ _ (by decide)]
        rw [x5_goes_B_L22]
        simp (disch := omega) only [gd_t, gd_T, gd_ok, not_false_eq_true, eq_self, bnd_r, bind_s, ite_t, ite_n, ite_T, ite_F, i32_id, e17, e18, q17, q18])
    (fun t hI f => by
      rw [x5_goes_B_L22]
      simp (disch := omega) only [gd_t, gd_T, gd_ok, not_false_eq_true, eq_self, bnd_r, bind_s, ite_t, ite_n, ite_T, ite_F, i32_id]) τ ⟨onx.rf, fun j x h => by omega, fun j x u h => by omega⟩
  refine ⟨τ', h2, h1.1, fun i x hx => h1.2.1 i x ?_ hx, fun i x t hx ht => h1.2.2 i x t ?_ hx ht⟩
  · have := (List.getElem?_eq_some_iff.mp hx).1; omega
  · have := (List.getElem?_eq_some_iff.mp hx).1; omega
theorem rng_succ (i : Nat) : rng (i + 1) = rng i ++ [(i : Int)] := by simp [rng, List.range_succ]
theorem mem_rng {n : Nat} {x : Int} : x ∈ rng n ↔ 0 ≤ x ∧ x < n := by
  simp only [rng, List.mem_map, List.mem_range]
  constructor
  · rintro ⟨a, h, rfl⟩; omega
  · intro h; exact ⟨x.toNat, by omega, by omega⟩
theorem rng_nodup (n : Nat) : (rng n).Nodup := by
  unfold rng
  rw [List.nodup_iff_pairwise_ne, List.pairwise_map]
  exact List.Pairwise.imp (fun h => by omega) List.pairwise_lt_range
theorem rems_clr {n : Nat} (hn : n ≤ 7) {left o : Int} (hl : 0 ≤ left ∧ left < 128) (ho : 0 ≤ o ∧ o < 7) : rems n (left - b2i (bit left o) * 2 ^ o.toNat) = (rems n left).filter fun q => q != o := by
  unfold rems
  rw [List.filter_filter]
  apply List.filter_congr
  intro q hq
  have hq := mem_rng.mp hq
  rw [clr_bit hl ho ⟨hq.1, by omega⟩, Bool.and_comm]
  congr 1
  by_cases c : q = o <;> simp [c]
theorem filt_len {l : List Int} (hnd : l.Nodup) {o : Int} (ho : o ∈ l) : (l.filter fun q => q != o).length + 1 = l.length := by
  rw [← List.Nodup.erase_eq_filter hnd, List.length_erase_of_mem ho]
  have := List.length_pos_of_mem ho
  omega
theorem isSt_b {c : Int} (h : isSt c) : 36 ≤ c ∧ c ≤ 1374 := by unfold isSt at h; omega
def placX (n : Nat) (cl rw : Int → Int) : Prop := ∀ s : Int, 0 ≤ s → s < n → (0 ≤ cl s ∧ cl s ≤ 9) ∧ 0 ≤ rw s ∧ rw s ≤ 9
theorem endF_b {n : Nat} {cl rw : Int → Int} (h : placX n cl rw) : ∀ (p : List Int) (x y : Int), (∀ a ∈ p, 0 ≤ a ∧ a < n) → (0 ≤ x ∧ x ≤ 9) → (0 ≤ y ∧ y ≤ 9) → (0 ≤ endF cl x p ∧ endF cl x p ≤ 9) ∧ 0 ≤ endF rw y p ∧ endF rw y p ≤ 9
  | [], _, _, _, hx, hy => ⟨hx, hy⟩
  | a :: p, x, y, hp, _, _ => by
    have := hp a List.mem_cons_self
    have := h a this.1 this.2
    exact endF_b h p _ _ (fun b hb => hp b (List.mem_cons_of_mem _ hb)) this.1 this.2
theorem lenX_b {n : Nat} {cl rw : Int → Int} (h : placX n cl rw) : ∀ (l : List Int) (x y : Int), (∀ a ∈ l, 0 ≤ a ∧ a < n) → (0 ≤ x ∧ x ≤ 9) → (0 ≤ y ∧ y ≤ 9) → 0 ≤ lenF cl rw x y l ∧ lenF cl rw x y l ≤ 18 * l.length
  | [], _, _, _, _, _ => by simp [lenF]
  | a :: l, x, y, hl, hx, hy => by
    have h1 := hl a List.mem_cons_self
    have h2 := h a h1.1 h1.2
    have h4 := lenX_b h l (cl a) (rw a) (fun b hb => hl b (List.mem_cons_of_mem _ hb)) h2.1 h2.2
    rw [lenF, List.length_cons]
    unfold stp
    omega
theorem holdsX_pre {τ : XS} {c : Int} {p q : List Int} (h : holdsX τ c (p ++ q)) : holdsX τ c p := fun i x hx => h i x (by
  have := (List.getElem?_eq_some_iff.mp hx).1
  rw [List.getElem?_append_left this]; exact hx)
theorem stand_walk : stand [14, 15, 16, 17, 18] := by
  intro c hc
  simp at hc
  unfold dyn
  omega
theorem x_goes {n : Nat} (hn : n ≤ 6) {v c : Int} (hc : isSt c) (cl rw : Int → Int) (hpl : placX n cl rw) : ∀ (r m : Nat) (p : List Int) (left : Int) (τ : XS) (b : Option (List Int)), r < m → r + p.length = n → (rems n left).length = r → (0 ≤ left ∧ left < 128) → (∀ o : Int, 0 ≤ o → o < 7 → bit left o = true → o < n) → p.Nodup → (∀ x ∈ p, (0 ≤ x ∧ x < n) ∧ bit left x = false) →
    cty τ n v → τ (c + 1) = cl → τ (c + 2) = rw → holdsX τ 17 p → holdsX τ 18 (tms cl rw 0 0 0 p) → wkOk cl rw n τ b →
    ∃ τ', x5_goes m c p.length (lenF cl rw 0 0 p) (endF cl 0 p) (endF rw 0 p) left τ = some (0, τ') ∧ onx [14, 15, 16, 17, 18] τ τ' ∧ holdsX τ' 17 p ∧ holdsX τ' 18 (tms cl rw 0 0 0 p) ∧ wkOk cl rw n τ' (((perms r (rems n left)).map (p ++ ·)).foldl (better (lenF cl rw 0 0)) b) := by
  have hcb := isSt_b hc
  intro r
  induction r with
  | zero =>
    intro m p left τ b hm hpn hr hl hlo hnd hp hct e1 e2 h17 h18 hb
    obtain ⟨m, rfl⟩ : ∃ g, m = g + 1 := ⟨m - 1, by omega⟩
    have hpb : ∀ a ∈ p, 0 ≤ a ∧ a < n := fun a ha => (hp a ha).1
    have hlen := lenX_b hpl p 0 0 hpb (by omega) (by omega)
    have hl0 : left = 0 := by
      refine bit_ext hl (by omega) fun o h0 h1 => ?_
      cases hb : bit left o with
      | false => rw [show bit 0 o = false by unfold bit; simp]
      | true =>
        have h2 := hlo o h0 h1 hb
        have : o ∈ rems n left := List.mem_filter.mpr ⟨mem_rng.mpr ⟨h0, h2⟩, hb⟩
        rw [List.length_eq_zero_iff.mp hr] at this
        cases this
    subst hl0
    have hperm : ((perms 0 (rems n 0)).map (p ++ ·)) = [p] := by simp [perms]
    rw [hperm, List.foldl_cons, List.foldl_nil]
    rw [x5_goes, x5_goes_B, gd_t hc]
    have hcase : (lenF cl rw 0 0 p < τ 14 4 ∧ better (lenF cl rw 0 0) b p = some p) ∨ (¬ lenF cl rw 0 0 p < τ 14 4 ∧ better (lenF cl rw 0 0) b p = b) := by
      cases b with
      | none => left; exact ⟨by rw [show τ 14 4 = 100000000 from hb]; omega, rfl⟩
      | some l0 =>
        obtain ⟨q1, q2, q3, q4, q5⟩ := hb
        rw [better_some, q2]
        by_cases c : lenF cl rw 0 0 p < lenF cl rw 0 0 l0
        · left; exact ⟨c, if_pos c⟩
        · right; exact ⟨c, if_neg c⟩
    have h14 : 0 ≤ τ 14 4 ∧ τ 14 4 ≤ 100000000 := by
      cases b with
      | none => rw [show τ 14 4 = 100000000 from hb]; omega
      | some l0 => obtain ⟨q1, q2, q3, q4, q5⟩ := hb; rw [q2]; have := lenF_nn cl rw l0 0 0; omega
    rcases hcase with ⟨hlt, hbt⟩ | ⟨hlt, hbt⟩
    · obtain ⟨τ', a1, a2, a3, a4⟩ := x_lay hn (x5_goes m) c (fun s59 => some (0, s59)) p (by omega) hnd hpb (ux τ 14 4 (lenF cl rw 0 0 p)) (h17.of (by funext i; rw [ux_c _ _ _ _ (by decide)])) (h18.of (by funext i; rw [ux_c _ _ _ _ (by decide)]))
      have q : (p.length : Int) = n := by omega
      refine ⟨τ', ?_, ?_, ?_, ?_, ?_⟩
      · simp (disch := omega) only [gd_t, gd_T, gd_ok, not_false_eq_true, eq_self, bnd_r, bind_s, ite_t, ite_n, ite_T, ite_F, i32_id, i32_0]
        rw [q]
        exact a1
      · exact (onx.up (by decide)).tr (a2.mono (by simp))
      · exact h17.of (by rw [a2 17 (by decide)]; funext i; rw [ux_c _ _ _ _ (by decide)])
      · exact h18.of (by rw [a2 18 (by decide)]; funext i; rw [ux_c _ _ _ _ (by decide)])
      · rw [hbt]
        exact ⟨by omega, by rw [a2 14 (by decide)]; simp [ux], by omega, a3, a4⟩
    · refine ⟨τ, ?_, onx.rf, h17, h18, ?_⟩
      · simp (disch := omega) only [gd_t, gd_T, gd_ok, not_false_eq_true, eq_self, bnd_r, bind_s, ite_t, ite_n, ite_T, ite_F, i32_id]
      · rw [hbt]; exact hb
  | succ r ih =>
    intro m p left τ b hm hpn hr hl hlo hnd hp hct e1 e2 h17 h18 hb
    obtain ⟨m, rfl⟩ : ∃ g, m = g + 1 := ⟨m - 1, by omega⟩
    have hpb : ∀ a ∈ p, 0 ≤ a ∧ a < n := fun a ha => (hp a ha).1
    have hlen := lenX_b hpl p 0 0 hpb (by omega) (by omega)
    have hend := endF_b hpl p 0 0 hpb (by omega) (by omega)
    have hl0 : ¬ left = 0 := by
      intro h
      subst h
      have : rems n 0 = [] := by
        unfold rems
        rw [List.filter_eq_nil_iff]
        intro a _
        unfold bit
        simp
      rw [this] at hr
      cases hr
    have h14 : 0 ≤ τ 14 4 ∧ τ 14 4 ≤ 100000000 := by
      cases b with
      | none => rw [show τ 14 4 = 100000000 from hb]; omega
      | some l0 => obtain ⟨q1, q2, q3, q4, q5⟩ := hb; rw [q2]; have := lenF_nn cl rw l0 0 0; omega
    rw [x5_goes, x5_goes_B, gd_t hc]
    by_cases hlt : lenF cl rw 0 0 p < τ 14 4
    · generalize hR : rems n left = R at *
      have hRnd : R.Nodup := by rw [← hR]; exact List.Pairwise.filter _ (rng_nodup n)
      generalize hG : (fun o : Int => (perms r (R.filter fun q => q != o)).map (o :: ·)) = G
      have hperm : perms (r + 1) R = R.flatMap G := by rw [← hG]; rfl
      obtain ⟨τ', a1, a2⟩ := for0 (fun f i s => x5_goes_B_L71 (x5_goes m) c (fun s43 => some (0, s43)) f p.length (lenF cl rw 0 0 p) (endF cl 0 p) (endF rw 0 p) left i s) (fun s43 => some (0, s43)) n
        (fun i t => onx [14, 15, 16, 17, 18] τ t ∧ holdsX t 17 p ∧ holdsX t 18 (tms cl rw 0 0 0 p) ∧ wkOk cl rw n t (((((rng i.toNat).filter (bit left)).flatMap G).map (p ++ ·)).foldl (better (lenF cl rw 0 0)) b)) (by omega) (by omega)
        (fun i t hI h0 hi => by
          obtain ⟨g1, g2, g3, g4⟩ := hI
          have hct' : cty t n v := hct.kept g1 stand_walk
          have f1 : t (c + 1) = cl := by rw [g1 (c + 1) (by simp; omega), e1]
          have f2 : t (c + 2) = rw := by rw [g1 (c + 2) (by simp; omega), e2]
          have hi1 : (i + 1).toNat = i.toNat + 1 := by omega
          have hi2 : ((i.toNat : Nat) : Int) = i := by omega
          cases hbit : bit left i with
          | false =>
            refine ⟨t, ⟨g1, g2, g3, ?_⟩, fun f => ?_⟩
            · rw [hi1, rng_succ, List.filter_append, hi2]
              simp only [List.filter_cons, hbit, List.filter_nil, Bool.false_eq_true, if_false, List.append_nil]
              exact g4
            · rw [x5_goes_B_L71]
              simp (disch := omega) only [gd_t, gd_T, gd_ok, not_false_eq_true, eq_self, bnd_r, bind_s, ite_t, ite_n, ite_T, ite_F, i32_id, sayings_ev hct', hasb_ev, hbit, b2i]
              rfl
          | true =>
            have hiR : i ∈ R := by rw [← hR]; exact List.mem_filter.mpr ⟨mem_rng.mpr ⟨h0, hi⟩, hbit⟩
            have hcl := hpl i h0 hi
            have hclr := clr_b hl (o := i) ⟨h0, by omega⟩
            have hstep := stp_nn cl rw (endF cl 0 p) (endF rw 0 p) i
            have hsum : lenF cl rw 0 0 (p ++ [i]) = lenF cl rw 0 0 p + ((cl i - endF cl 0 p).natAbs : Int) + ((rw i - endF rw 0 p).natAbs : Int) := by
              rw [lenF_app, lenF, lenF, stp]
              omega
            have hlen' : ((p ++ [i]).length : Int) = p.length + 1 := by simp
            obtain ⟨τ2, b1, b2, b3, b4, b5⟩ := ih m (p ++ [i]) (left - b2i (bit left i) * 2 ^ i.toNat) (ux (ux t 17 p.length i) 18 p.length (lenF cl rw 0 0 (p ++ [i]))) _ (by omega) (by simp; omega)
              (by rw [rems_clr (by omega) hl ⟨h0, by omega⟩, hR]; have := filt_len hRnd hiR; omega) ⟨hclr.1, by omega⟩
              (fun o q0 q1 q2 => by
                rw [clr_bit hl ⟨h0, by omega⟩ ⟨q0, q1⟩] at q2
                simp at q2
                exact hlo o q0 q1 q2.1)
              (by
                rw [List.nodup_append]
                refine ⟨hnd, by simp, fun a ha d hd => ?_⟩
                simp at hd
                subst hd
                intro q
                subst q
                rw [(hp a ha).2] at hbit
                cases hbit)
              (fun x hx => by
                rcases List.mem_append.mp hx with q | q
                · refine ⟨(hp x q).1, ?_⟩
                  rw [clr_bit hl ⟨h0, by omega⟩ ⟨(hp x q).1.1, by have := (hp x q).1.2; omega⟩, (hp x q).2]
                  rfl
                · simp at q
                  subst q
                  refine ⟨⟨h0, hi⟩, ?_⟩
                  rw [clr_bit hl ⟨h0, by omega⟩ ⟨h0, by omega⟩]
                  simp)
              ((hct'.kept (cs := [14, 15, 16, 17, 18]) (onx.up (by decide)) stand_walk).kept (cs := [14, 15, 16, 17, 18]) (onx.up (by decide)) stand_walk)
              (by funext z; rw [ux_c _ _ _ _ (by omega), ux_c _ _ _ _ (by omega), f1])
              (by funext z; rw [ux_c _ _ _ _ (by omega), ux_c _ _ _ _ (by omega), f2])
              ((holdsX_snoc g2 i).of (by funext z; rw [ux_c _ _ _ _ (by decide)]))
              (by
                rw [tms_snoc, Int.zero_add]
                have := holdsX_snoc (τ := ux t 17 p.length i) (g3.of (by funext z; rw [ux_c _ _ _ _ (by decide)])) (lenF cl rw 0 0 (p ++ [i]))
                rw [tms_len] at this
                exact this)
              (g4.of (by rw [ux_c _ _ _ _ (by decide), ux_c _ _ _ _ (by decide)]) (by funext z; rw [ux_c _ _ _ _ (by decide), ux_c _ _ _ _ (by decide)]) (by funext z; rw [ux_c _ _ _ _ (by decide), ux_c _ _ _ _ (by decide)]))
            refine ⟨τ2, ⟨?_, holdsX_pre b3, ?_, ?_⟩, fun f => ?_⟩
            · exact ((g1.tr (onx.up (by decide))).tr (onx.up (by decide))).tr b2
            · rw [tms_snoc] at b4; exact holdsX_pre b4
            · rw [hi1, rng_succ, List.filter_append, hi2]
              simp only [List.filter_cons, hbit, List.filter_nil, List.flatMap_append, List.map_append, List.foldl_append]
              have hGi : ([i].flatMap G).map (p ++ ·) = (perms r (rems n (left - b2i (bit left i) * 2 ^ i.toNat))).map (p ++ [i] ++ ·) := by
                rw [rems_clr (by omega) hl ⟨h0, by omega⟩, hR, ← hG]
                simp
              rw [hbit] at hGi
              simp only [if_true] at hGi ⊢
              rw [hGi]
              rw [hbit] at b5
              exact b5
            · have f1' : ∀ z, t (c + 1) z = cl z := fun z => by rw [f1]
              have f2' : ∀ z, t (c + 2) z = rw z := fun z => by rw [f2]
              have k1 : ux (ux t 17 p.length i) 18 p.length (lenF cl rw 0 0 (p ++ [i])) (c + 1) i = cl i := by rw [ux_c _ _ _ _ (by omega), ux_c _ _ _ _ (by omega), f1]
              have k2 : ux (ux t 17 p.length i) 18 p.length (lenF cl rw 0 0 (p ++ [i])) (c + 2) i = rw i := by rw [ux_c _ _ _ _ (by omega), ux_c _ _ _ _ (by omega), f2]
              rw [x5_goes_B_L71]
              simp (disch := omega) only [gd_t, gd_T, gd_ok, not_false_eq_true, eq_self, bnd_r, bind_s, ite_t, ite_n, ite_T, ite_F, i32_id, sayings_ev hct', hasb_ev, hbit, show b2i true = 1 from rfl, f1', f2', abs_ev, ← hsum, k1, k2, clr_ev hl ⟨h0, (by omega : i < 7)⟩]
              rw [hlen', endF_snoc, endF_snoc, hbit] at b1
              rw [show b2i true = 1 from rfl] at b1
              rw [b1, bind_s])
        (fun t hI f => by
          rw [x5_goes_B_L71]
          simp (disch := omega) only [gd_t, gd_T, gd_ok, not_false_eq_true, eq_self, bnd_r, bind_s, ite_t, ite_n, ite_T, ite_F, i32_id, sayings_ev (hct.kept hI.1 stand_walk)]) τ ⟨onx.rf, h17, h18, by simpa [rng] using hb⟩
      refine ⟨τ', ?_, a1.1, a1.2.1, a1.2.2.1, ?_⟩
      · simp (disch := omega) only [gd_t, gd_T, gd_ok, not_false_eq_true, eq_self, bnd_r, bind_s, ite_t, ite_n, ite_T, ite_F, i32_id]
        exact a2
      · rw [hperm]
        have := a1.2.2.2
        rw [show (n : Int).toNat = n by omega, show (rng n).filter (bit left) = R from hR] at this
        exact this
    · refine ⟨τ, ?_, onx.rf, h17, h18, ?_⟩
      · simp (disch := omega) only [gd_t, gd_T, gd_ok, not_false_eq_true, eq_self, bnd_r, bind_s, ite_t, ite_n, ite_T, ite_F, i32_id]
      · cases b with
        | none => rw [show τ 14 4 = 100000000 from hb] at hlt; omega
        | some l0 =>
          rw [better_skip]
          · exact hb
          · intro q hq
            obtain ⟨q', -, rfl⟩ := List.mem_map.mp hq
            rw [hb.2.1] at hlt
            have := lenF_nn cl rw q' (endF cl 0 p) (endF rw 0 p)
            simp only [lenF_app]
            omega
theorem x_by {n : Nat} (hn : n ≤ 6) {v c : Int} (hc : isSt c) {τ : XS} (hct : cty τ n v) (hpl : placX n (τ (c + 1)) (τ (c + 2))) :
    ∃ τ', x5_by c τ = some (14, τ') ∧ onx [14, 15, 16, 17, 18] τ τ' ∧ wkOk (τ (c + 1)) (τ (c + 2)) n τ' ((perms n (rng n)).foldl (better (lenF (τ (c + 1)) (τ (c + 2)) 0 0)) none) := by
  have hcb := isSt_b hc
  obtain ⟨f1, f2⟩ := full_ev n (by omega)
  have hb : (2 : Int) ^ n ≤ 64 ∧ 1 ≤ (2 : Int) ^ n := by
    have : ∀ n : Nat, n ≤ 6 → (2 : Int) ^ n ≤ 64 ∧ 1 ≤ (2 : Int) ^ n := by decide
    exact this n hn
  have hbits : ∀ o : Int, 0 ≤ o → o < 7 → bit (2 ^ n - 1) o = decide (o < n) := fun o h0 h1 => by
    have := f2 ⟨o.toNat, by omega⟩
    simp only at this
    rw [Int.toNat_of_nonneg h0] at this
    rw [this]
    congr 1
    rw [eq_iff_iff]
    omega
  have hrem : rems n (2 ^ n - 1) = rng n := by
    unfold rems
    rw [List.filter_eq_self]
    intro a ha
    have := mem_rng.mp ha
    rw [hbits a this.1 (by omega)]
    exact decide_eq_true this.2
  have hct2 : cty (ux τ 14 4 100000000) n v := hct.kept (cs := [14, 15, 16, 17, 18]) (onx.up (by decide)) stand_walk
  have k1 : ux τ 14 4 100000000 (c + 1) = τ (c + 1) := by funext z; rw [ux_c _ _ _ _ (by omega)]
  have k2 : ux τ 14 4 100000000 (c + 2) = τ (c + 2) := by funext z; rw [ux_c _ _ _ _ (by omega)]
  obtain ⟨τ', a1, a2, -, -, a5⟩ := x_goes hn hc (τ (c + 1)) (τ (c + 2)) hpl n 9 [] (2 ^ n - 1) (ux τ 14 4 100000000) none (by omega) (by simp) (by rw [hrem]; simp [rng]) (by omega)
    (fun o h0 h1 h2 => by rw [hbits o h0 h1] at h2; exact of_decide_eq_true h2) (by simp) (fun x hx => by cases hx) hct2 k1 k2 (fun i x h => by simp at h) (fun i x h => by simp [tms] at h) (by simp [wkOk, ux])
  refine ⟨τ', ?_, (onx.up (by decide)).tr a2, ?_⟩
  · unfold x5_by
    rw [gd_t hc, bnd_r, sayings_ev hct2, bind_s]
    simp only [f1]
    rw [show lenF (τ (c + 1)) (τ (c + 2)) 0 0 [] = 0 from rfl, show ((([] : List Int).length : Nat) : Int) = 0 from rfl] at a1
    rw [show endF (τ (c + 1)) 0 [] = 0 from rfl, show endF (τ (c + 2)) 0 [] = 0 from rfl] at a1
    rw [a1, bind_s]
  · rw [hrem] at a5
    simpa using a5
