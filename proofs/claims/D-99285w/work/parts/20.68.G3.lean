set_option maxRecDepth 100000
/-! LAYER 2: the reference's best giving -/
def wsF (wl : Int → Int → Int) : Nat → List Int → Int
  | _, [] => 0
  | o, v :: r => wl o v + wsF wl (o + 1) r
theorem wsF_b {wl : Int → Int → Int} {n nv : Nat} (h : ∀ o v : Int, 0 ≤ o → o < n → 0 ≤ v → v < nv → bd1 (wl o v)) : ∀ (r : List Int) (o : Nat), o + r.length ≤ n → (∀ u ∈ r, 0 ≤ u ∧ u < nv) → -1000000 * (r.length : Int) ≤ wsF wl o r ∧ wsF wl o r ≤ 1000000 * (r.length : Int)
  | [], _, _, _ => by simp [wsF]
  | u :: r, o, ho, hu => by
    rw [List.length_cons] at ho
    have h1 := hu u List.mem_cons_self
    have h2 := h o u (by omega) (by omega) h1.1 h1.2
    have h3 := wsF_b h r (o + 1) (by omega) (fun w hw => hu w (List.mem_cons_of_mem _ hw))
    unfold bd1 at h2
    rw [wsF, List.length_cons]
    omega
theorem rwF_len {nv : Nat} {cb : List Int → Int → Bool} {f : List Int → List (List Int)} {B : Nat} (h : ∀ p, (f p).length ≤ B) (p : List Int) : ∀ k, (rwF nv cb f p k).length ≤ k * B
  | 0 => by simp [rwF]
  | k + 1 => by
    have h1 := rwF_len (nv := nv) (cb := cb) h p k
    rw [rwF, List.length_append, Nat.add_mul]
    have h2 := h (p ++ [(nv : Int) - ((k : Int) + 1)])
    split
    · omega
    · simp; omega
theorem rws_len {nv : Nat} (hv : nv ≤ 7) {cb : List Int → Int → Bool} : ∀ (r : Nat) (p : List Int), (rws nv cb r p).length ≤ 7 ^ r
  | 0, p => by simp [rws]
  | r + 1, p => by
    rw [rws]
    have h1 := rwF_len (nv := nv) (cb := cb) (rws_len (cb := cb) hv r) p nv
    have h2 : nv * 7 ^ r ≤ 7 * 7 ^ r := Nat.mul_le_mul_right _ hv
    rw [Nat.pow_succ]
    omega
theorem rwF_mem {nv : Nat} {cb : List Int → Int → Bool} {f : List Int → List (List Int)} {p : List Int} {q : List Int} : ∀ k, k ≤ nv → q ∈ rwF nv cb f p k → ∃ v : Int, (0 ≤ v ∧ v < nv) ∧ cb p v = true ∧ q ∈ f (p ++ [v])
  | 0, _, h => by simp [rwF] at h
  | k + 1, hk, h => by
    rw [rwF] at h
    rcases List.mem_append.mp h with h | h
    · by_cases c : cb p ((nv : Int) - ((k : Int) + 1)) = true
      · rw [if_pos c] at h
        exact ⟨_, by omega, c, h⟩
      · rw [if_neg c] at h
        cases h
    · exact rwF_mem k (by omega) h
theorem rws_mem {nv : Nat} {cb : List Int → Int → Bool} : ∀ (r : Nat) (p q : List Int), q ∈ rws nv cb r p → (∀ u ∈ p, 0 ≤ u ∧ u < nv) → q.length = p.length + r ∧ ∀ u ∈ q, 0 ≤ u ∧ u < nv
  | 0, p, q, h, hp => by
    rw [rws] at h
    rw [List.mem_singleton] at h
    rw [h]
    exact ⟨rfl, hp⟩
  | r + 1, p, q, h, hp => by
    rw [rws] at h
    obtain ⟨v, h1, h2, h3⟩ := rwF_mem nv (Nat.le_refl _) h
    obtain ⟨a1, a2⟩ := rws_mem r _ q h3 (fun u hu => by
      rcases List.mem_append.mp hu with hu | hu
      · exact hp u hu
      · rw [List.mem_singleton] at hu; rw [hu]; exact h1)
    refine ⟨?_, a2⟩
    rw [a1, List.length_append, List.length_singleton]
    omega
section
variable {s s' : MS} {n nv : Nat} {of : Int} {cn : Int → Int → Bool} {wl : Int → Int → Int}
/-- of the reference: how well -/
def mwR (s : MS) (n nv : Nat) (wl : Int → Int → Int) : Prop := ∀ o v : Int, 0 ≤ o → o < n → 0 ≤ v → v < nv → s 51 (7 * o + v) = wl o v ∧ bd1 (wl o v)
def rowOk (n nv : Nat) (r : List Int) : Prop := r.length = n ∧ ∀ u ∈ r, 0 ≤ u ∧ u < nv
/-- the best giving so far, as the reference holds it -/
def gvM (s : MS) (n nv : Nat) (wl : Int → Int → Int) (b : Option (List Int)) : Prop := match b with
  | none => s 55 0 = 0
  | some r => s 55 0 = 1 ∧ s 56 0 = wsF wl 0 r ∧ hR s 54 r ∧ rowOk n nv r
theorem gvM.kp {b : Option (List Int)} (h : gvM s n nv wl b) (h1 : s' 54 = s 54) (h2 : s' 55 = s 55) (h3 : s' 56 = s 56) : gvM s' n nv wl b := by
  cases b with
  | none => unfold gvM at *; dsimp only at *; rw [h2]; exact h
  | some r => unfold gvM at *; dsimp only at *; rw [h2, h3]; exact ⟨h.1, h.2.1, h.2.2.1.of h1, h.2.2.2⟩
theorem giv54 {asked : Int} (hM : mgR s n nv asked cn) (hW : mwR s n nv wl) {r : List Int} (hr : rowOk n nv r) (h53 : hR s 53 r) (K : Int → Int → MS → Option (Int × MS)) : ∀ (d fuel i : Nat) (t : Int), i + d = n → d < fuel → m_laysGiving_L54 K fuel of t i s = K of (t + wsF wl i (r.drop i)) s := by
  intro d
  have h6 := hM.1.2
  have h7 := hM.2.1.2
  induction d with
  | zero =>
    intro fuel i t hi hf
    obtain ⟨g, rfl⟩ : ∃ g, fuel = g + 1 := ⟨fuel - 1, by omega⟩
    rw [m_laysGiving_L54, List.drop_eq_nil_of_le (by rw [hr.1]; omega), wsF, Int.add_zero]
    refine st_bind (sayMany_ev hM.1.1) (st_t ?_ rfl)
    dsimp only
    rw [i32_id (by omega) (by omega), i32_id (by omega) (by omega)]
    omega
  | succ d ih =>
    intro fuel i t hi hf
    obtain ⟨g, rfl⟩ : ∃ g, fuel = g + 1 := ⟨fuel - 1, by omega⟩
    have hl : i < r.length := by rw [hr.1]; omega
    have e := h53.get hl
    have hu := hr.2 r[i] (List.getElem_mem hl)
    have ii : i32 (i : Int) = i := i32_id (by omega) (by omega)
    have i7 : i32 (7 * (i : Int) + r[i]) = 7 * i + r[i] := i32_id (by omega) (by omega)
    rw [m_laysGiving_L54, List.drop_eq_getElem_cons hl, wsF]
    refine st_bind (sayMany_ev hM.1.1) (st_f ?_ (st_gd ?_ (st_gd ?_ (st_bnd (st_bnd ?_)))))
    · dsimp only
      rw [ii, i32_id (by omega) (by omega)]; omega
    · unfold ok; rw [ii]; omega
    · dsimp only
      unfold ok; rw [ii, e, i7]; omega
    · dsimp only
      rw [ii, e, i7, (hW i r[i] (by omega) (by omega) hu.1 hu.2).1, show (i : Int) + 1 = ((i + 1 : Nat) : Int) by omega, ih g (i + 1) _ (by omega) (by omega), Int.add_assoc]
theorem giv114 {asked : Int} {r : List Int} (hr : rowOk n nv r) (K : Int → MS → Option (Int × MS)) : ∀ (d fuel i : Nat) (s : MS), mgR s n nv asked cn → hR s 53 r → hR s 54 (r.take i) → i + d = n → d < fuel → ∃ s', m_laysGiving_L114 K fuel of i s = K of s' ∧ only [54] s s' ∧ hR s' 54 r := by
  intro d
  induction d with
  | zero =>
    intro fuel i s hM h53 h54 hi hf
    have h6 := hM.1.2
    obtain ⟨g, rfl⟩ : ∃ g, fuel = g + 1 := ⟨fuel - 1, by omega⟩
    refine ⟨s, ?_, only.rf, by rw [List.take_of_length_le (by rw [hr.1]; omega)] at h54; exact h54⟩
    rw [m_laysGiving_L114]
    refine st_bind (sayMany_ev hM.1.1) (st_t ?_ rfl)
    dsimp only
    rw [i32_id (by omega) (by omega), i32_id (by omega) (by omega)]
    omega
  | succ d ih =>
    intro fuel i s hM h53 h54 hi hf
    have h6 := hM.1.2
    obtain ⟨g, rfl⟩ : ∃ g, fuel = g + 1 := ⟨fuel - 1, by omega⟩
    have hl : i < r.length := by rw [hr.1]; omega
    have e := h53.get hl
    have ii : i32 (i : Int) = i := i32_id (by omega) (by omega)
    have oki : ok 6 (i : Int) := by unfold ok; rw [ii]; omega
    obtain ⟨s1, e1⟩ : ∃ s1, up s 54 (i : Int) r[i] = s1 := ⟨_, rfl⟩
    have o1 : only [54] s s1 := by rw [← e1]; exact only.up (by decide)
    have h54' : hR s1 54 (r.take (i + 1)) := by
      have := h54.snoc r[i]
      rw [List.length_take, Nat.min_eq_left (by omega), e1] at this
      rw [List.take_succ_eq_append_getElem hl]
      exact this
    obtain ⟨s', a1, a2, a3⟩ := ih g (i + 1) s1 (hM.kept (o1 36 (by decide)) (o1 52 (by decide))) (h53.of (o1 53 (by decide))) h54' (by omega) (by omega)
    refine ⟨s', ?_, o1.tr a2, a3⟩
    rw [m_laysGiving_L114]
    refine st_bind (sayMany_ev hM.1.1) (st_f ?_ (st_gd oki (st_gd oki (st_be (e' := s1) ?_ (st_bnd ?_)))))
    · dsimp only
      rw [ii, i32_id (by omega) (by omega)]; omega
    · dsimp only
      rw [ii, e]; exact e1
    · rw [show (i : Int) + 1 = ((i + 1 : Nat) : Int) by omega]; exact a1
/-- what is better -/
def wbt (wl : Int → Int → Int) : Option (List Int) → List Int → Option (List Int) := better fun r => - wsF wl 0 r
noncomputable def gJ43 (K : MS → Option (Int × MS)) (f : Nat) (x1_37 : Int) (s38 : MS) : Option (Int × MS) :=
              bnd (up s38 55 0 1) fun s39 =>
              Option.bind (m_sayingMany s39) fun z40 =>
              Option.bind (m_isNextRow (z40.1 - 1) x1_37 1 z40.2) fun z41 =>
              bnd z41.1 fun x2_42 =>
              m_laysGiving_L45 K f x1_37 x2_42 z41.2
theorem giv_upd (K : MS → Option (Int × MS)) {f : Nat} {r : List Int} {b : Option (List Int)} (hM : mgR s n nv 1 cn) (hW : mwR s n nv wl) (hr : rowOk n nv r) (h53 : hR s 53 r) (hb : gvM s n nv wl b) :
    ∃ s2, m_laysGiving_L45 K (f + 1) of 1 s = gJ43 K f of s2 ∧ only [54, 56] s s2 ∧ gvM (up s2 55 0 1) n nv wl (wbt wl b r) := by
  have h6 := hM.1.2
  have fu := FU_ge
  have hws := wsF_b (wl := wl) (n := n) (nv := nv) (fun o v h1 h2 h3 h4 => (hW o v h1 h2 h3 h4).2)
  have hwr := hws r 0 (by rw [hr.1]; omega) hr.2
  rw [hr.1] at hwr
  have it : i64 (wsF wl 0 r) = wsF wl 0 r := i64_id (by omega) (by omega)
  -- the new one
  have new : ∃ s2, (bnd (up s 56 0 (wsF wl 0 r)) fun s47 =>
              bnd 0 fun x5_48 =>
              m_laysGiving_L114
                (fun (x1_60 : Int) (s61 : MS) =>
                  gJ43 K f x1_60 s61)
                FU of x5_48 s47) = gJ43 K f of s2 ∧ only [54, 56] s s2 ∧ gvM (up s2 55 0 1) n nv wl (some r) := by
    obtain ⟨s1, e1⟩ : ∃ s1, up s 56 0 (wsF wl 0 r) = s1 := ⟨_, rfl⟩
    have o1 : only [56] s s1 := by rw [← e1]; exact only.up (by decide)
    obtain ⟨s2, a1, a2, a3⟩ := giv114 (of := of) (asked := 1) (cn := cn) hr (fun (x1_60 : Int) (s61 : MS) => gJ43 K f x1_60 s61) n FU 0 s1 (hM.kept (o1 36 (by decide)) (o1 52 (by decide))) (h53.of (o1 53 (by decide))) (fun i x hx => by simp at hx) (by omega) (by omega)
    refine ⟨s2, st_be e1 (st_bnd a1), (o1.mono (by intro k; simp; omega)).tr (a2.mono (by intro k; simp; omega)), ?_⟩
    unfold gvM
    dsimp only
    refine ⟨by rw [up_s], ?_, a3.of (up_row (by decide)), hr⟩
    rw [up_row (by decide), a2 56 (by decide), ← e1, up_s]
  have hd : ∀ {x : Option (Int × MS)}, (if i32 (s 55 0) = 0 then
            (bnd (up s 56 0 (wsF wl 0 r)) fun s47 =>
              bnd 0 fun x5_48 =>
              m_laysGiving_L114
                (fun (x1_60 : Int) (s61 : MS) =>
                  gJ43 K f x1_60 s61)
                FU of x5_48 s47)
          else
            if i64 (wsF wl 0 r) ≤ i64 (s 56 0) then
              gJ43 K f of s
            else
              (bnd (up s 56 0 (wsF wl 0 r)) fun s47 =>
              bnd 0 fun x5_48 =>
              m_laysGiving_L114
                (fun (x1_60 : Int) (s61 : MS) =>
                  gJ43 K f x1_60 s61)
                FU of x5_48 s47)) = x → m_laysGiving_L45 K (f + 1) of 1 s = x := fun {x} h => by
    rw [m_laysGiving_L45]
    refine st_f n10 (st_bnd (st_bnd ?_))
    have q := giv54 (of := of) hM hW hr h53 (fun (x1_34 : Int) (x3_35 : Int) (s36 : MS) =>
          bnd (fun (x1_37 : Int) (s38 : MS) =>
              bnd (up s38 55 0 1) fun s39 =>
              Option.bind (m_sayingMany s39) fun z40 =>
              Option.bind (m_isNextRow (z40.1 - 1) x1_37 1 z40.2) fun z41 =>
              bnd z41.1 fun x2_42 =>
              m_laysGiving_L45 K f x1_37 x2_42 z41.2) fun j43 =>
          bnd (fun (x1_44 : Int) (x3_45 : Int) (s46 : MS) =>
              bnd (up s46 56 0 x3_45) fun s47 =>
              bnd 0 fun x5_48 =>
              m_laysGiving_L114
                (fun (x1_60 : Int) (s61 : MS) =>
                  j43 x1_60 s61)
                FU x1_44 x5_48 s47) fun j62 =>
          if i32 (s36 55 0) = 0 then
            j62 x1_34 x3_35 s36
          else
            if i64 x3_35 ≤ i64 (s36 56 0) then
              j43 x1_34 s36
            else
              j62 x1_34 x3_35 s36) n FU 0 0 (by omega) (by omega)
    rw [List.drop_zero, Int.zero_add] at q
    exact q.trans h
  cases b with
  | none =>
    obtain ⟨s2, a1, a2, a3⟩ := new
    unfold gvM at hb
    dsimp only at hb
    exact ⟨s2, hd (st_t (by rw [hb]; exact i32_0) a1), a2, a3⟩
  | some r0 =>
    have hb' := hb
    unfold gvM at hb'
    dsimp only at hb'
    obtain ⟨b1, b2, b3, b4⟩ := hb'
    have hw0 := hws r0 0 (by rw [b4.1]; omega) b4.2
    rw [b4.1] at hw0
    have n55 : ¬ i32 (s 55 0) = 0 := by rw [b1]; exact n10
    unfold wbt
    rw [better_some]
    by_cases c : wsF wl 0 r ≤ s 56 0
    · rw [if_neg (by rw [b2] at c; omega)]
      refine ⟨s, hd (st_f n55 (st_t ?_ rfl)), only.rf, ?_⟩
      · rw [it, b2, i64_id (by omega) (by omega), ← b2]; exact c
      · rw [up_self b1]; exact hb
    · rw [if_pos (by rw [b2] at c; omega)]
      obtain ⟨s2, a1, a2, a3⟩ := new
      refine ⟨s2, hd (st_f n55 (st_f ?_ a1)), a2, a3⟩
      rw [it, b2, i64_id (by omega) (by omega), ← b2]; exact c
theorem giv_go (hof : 0 ≤ of ∧ of < 128) (K : MS → Option (Int × MS)) : ∀ (L : Nat) (pr : List Int) (k fuel : Nat) (s : MS) (b : Option (List Int)), (aft nv (cbF cn of) n pr k).length = L → mgR s n nv 1 cn → mwR s n nv wl → pr.length + 1 = n → (∀ u ∈ pr, 0 ≤ u ∧ u < nv) → k + 1 ≤ nv → hR s 53 (pr.reverse ++ [(nv : Int) - ((k : Int) + 1)]) → gvM s n nv wl b → L + 1 < fuel →
    ∃ s', m_laysGiving_L45 K fuel of 1 s = K s' ∧ only [53, 54, 55, 56] s s' ∧ gvM s' n nv wl ((aft nv (cbF cn of) n pr k).foldl (wbt wl) (wbt wl b (pr.reverse ++ [(nv : Int) - ((k : Int) + 1)]))) := by
  intro L
  induction L using Nat.strongRecOn with
  | ind L ih =>
    intro pr k fuel s b hL hM hW hp hb hk h53 hg hf
    obtain ⟨f, rfl⟩ : ∃ f, fuel = f + 1 := ⟨fuel - 1, by omega⟩
    have h6 := hM.1.2
    have h7 := hM.2.1.2
    have hr : rowOk n nv (pr.reverse ++ [(nv : Int) - ((k : Int) + 1)]) := by
      refine ⟨by simp; omega, fun u hu => ?_⟩
      rcases List.mem_append.mp hu with hu | hu
      · exact hb u (List.mem_reverse.mp hu)
      · rw [List.mem_singleton] at hu; rw [hu]; omega
    obtain ⟨s2, a1, a2, a3⟩ := giv_upd (of := of) K (f := f) hM hW hr h53 hg
    obtain ⟨s3, e3⟩ : ∃ s3, up s2 55 0 1 = s3 := ⟨_, rfl⟩
    rw [e3] at a3
    have o3 : only [54, 55, 56] s s3 := (a2.mono (by intro k; simp; omega)).tr (by rw [← e3]; exact only.up (by decide))
    have M3 : mgR s3 n nv 1 cn := hM.kept (o3 36 (by decide)) (o3 52 (by decide))
    have R3 := h53.of (o3 53 (by decide))
    have lst := R3.last
    rw [List.length_reverse] at lst
    have fu := FU_ge
    obtain ⟨Mx, hMx, mb⟩ := MmI.ex h7 (pr := pr) (fun u hu => (hb u hu).1) (k := k) (by omega) (by omega)
    obtain ⟨s4, b1, b2⟩ := nextRow_go hof (fun (s44 : MS) => some (0, s44)) (fun (s45 : MS) => some (1, s45)) Mx pr k FU s3 hMx M3 (by omega) hb (by omega) (by rw [lst]; omega) R3.pre (by omega)
    have o4 : only [53, 54, 55, 56] s s4 := (o3.mono (by intro k; simp; omega)).tr (b1.mono (by intro k; simp; omega))
    have g4 := a3.kp (s' := s4) (b1 54 (by decide)) (b1 55 (by decide)) (b1 56 (by decide))
    have en : (n : Int) - 1 = (pr.length : Nat) := by omega
    rcases b2 with ⟨b2, b3⟩ | ⟨pr', k', b2, b3, b4, b5, b6, b7⟩
    · rw [b2, List.foldl_nil]
      obtain ⟨f', rfl⟩ : ∃ f', f = f' + 1 := ⟨f - 1, by omega⟩
      refine ⟨s4, ?_, o4, g4⟩
      rw [a1]
      unfold gJ43
      refine st_be e3 (st_bind (sayMany_ev M3.1.1) (st_bind (z := (0, s4)) ?_ (st_bnd ?_)))
      · unfold m_isNextRow
        dsimp only
        rw [en]
        exact b3
      · rw [m_laysGiving_L45]
        exact st_t i32_0 rfl
    · rw [b2, List.foldl_cons]
      rw [b2, List.length_cons] at hL
      obtain ⟨s5, c1, c2, c3⟩ := ih _ (show (aft nv (cbF cn of) n pr' k').length < L by omega) pr' k' f s4 _ rfl (M3.kept (b1 36 (by decide)) (b1 52 (by decide))) (fun o v q1 q2 q3 q4 => by rw [o4 51 (by decide)]; exact hW o v q1 q2 q3 q4) b3 b5 b4 b7 g4 (by omega)
      refine ⟨s5, ?_, o4.tr c2, c3⟩
      rw [a1]
      unfold gJ43
      refine st_be e3 (st_bind (sayMany_ev M3.1.1) (st_bind (z := (1, s4)) ?_ (st_bnd c1)))
      unfold m_isNextRow
      dsimp only
      rw [en]
      exact b6
theorem first_ev {asked : Int} (hof : 0 ≤ of ∧ of < 128) (hM : mgR s n nv asked cn) (hn : 1 ≤ n) : ∃ s', only [53] s s' ∧ ((rws nv (cbF cn of) n [] = [] ∧ m_isFirstRow of asked s = some (0, s')) ∨
      ∃ (pr' : List Int) (k' : Nat), rws nv (cbF cn of) n [] = (pr'.reverse ++ [(nv : Int) - ((k' : Int) + 1)]) :: aft nv (cbF cn of) n pr' k' ∧ pr'.length + 1 = n ∧ k' + 1 ≤ nv ∧ (∀ u ∈ pr', 0 ≤ u ∧ u < nv) ∧ m_isFirstRow of asked s = some (1, s') ∧ hR s' 53 (pr'.reverse ++ [(nv : Int) - ((k' : Int) + 1)])) := by
  obtain ⟨s1, e1⟩ : ∃ s1, up s 53 0 (-1) = s1 := ⟨_, rfl⟩
  have o1 : only [53] s s1 := by rw [← e1]; exact only.up (by decide)
  have h7 := hM.2.1.2
  have fu := FU_ge
  obtain ⟨Mx, hMx, mb⟩ := MmI.ex h7 (pr := []) (fun u hu => by cases hu) (k := nv) (Nat.le_refl _) (by decide)
  obtain ⟨s2, b1, b2⟩ := nextRow_go hof (fun (s44 : MS) => some (0, s44)) (fun (s45 : MS) => some (1, s45)) Mx [] nv FU s1 hMx (hM.kept (o1 36 (by decide)) (o1 52 (by decide))) hn (fun u hu => by cases hu) (Nat.le_refl _) (by rw [← e1, show (([] : List Int).length : Int) = 0 from rfl, up_s]; omega) (fun i x hx => by simp at hx) (by omega)
  rw [aft_all nv _ hn] at b2
  rw [show (([] : List Int).length : Int) = 0 from rfl] at b2
  refine ⟨s2, o1.tr b1, ?_⟩
  have e1' : up s 53 (i32 0) (-1) = s1 := by rw [i32_0]; exact e1
  rcases b2 with ⟨b2, b3⟩ | ⟨pr', k', b2, b3, b4, b5, b6, b7⟩
  · refine Or.inl ⟨b2, ?_⟩
    unfold m_isFirstRow m_isNextRow
    exact st_gd (by decide) (st_be e1' (st_bind b3 (st_gd bz_0 rfl)))
  · refine Or.inr ⟨pr', k', b2, b3, b4, b5, ?_, b7⟩
    unfold m_isFirstRow m_isNextRow
    exact st_gd (by decide) (st_be e1' (st_bind b6 (st_gd bz_1 rfl)))
/-- the best giving -/
def gvF (n nv : Nat) (cn : Int → Int → Bool) (wl : Int → Int → Int) (of : Int) : Option (List Int) := (rws nv (cbF cn of) n []).foldl (wbt wl) none
noncomputable def mLg (x1_5 : Int) (w6 : Int) (s7 : MS) : Option (Int × MS) :=
      gd (bz w6) <|
      bnd (up s7 55 0 w6) fun s9 =>
      bnd (up s9 56 0 0) fun s10 =>
      if i32 (s10 55 0) = 0 then
        Option.bind (m_isFirstRow x1_5 1 s10) fun z12 =>
        bnd z12.1 fun x2_13 =>
        m_laysGiving_L45
          (fun (s65 : MS) =>
            some (0, s65))
          FU x1_5 x2_13 z12.2
      else
        some (0, s10)
theorem mLg_ev (hof : 0 ≤ of ∧ of < 128) (hM : mgR s n nv 1 cn) (hW : mwR s n nv wl) : ∃ s', mLg of (if n = 0 then 1 else 0) s = some (0, s') ∧ only [53, 54, 55, 56] s s' ∧ gvM s' n nv wl (gvF n nv cn wl of) := by
  have h6 := hM.1.2
  have h7 := hM.2.1.2
  have fu := FU_ge
  by_cases h0 : n = 0
  · refine ⟨up (up s 55 0 1) 56 0 0, ?_, (only.up (by decide)).tr (only.up (by decide)), ?_⟩
    · rw [if_pos h0]
      unfold mLg
      refine st_gd (by decide) (st_bnd (st_bnd (st_f ?_ rfl)))
      rw [up_row (by decide), up_s]; exact n10
    · unfold gvF
      rw [h0, rws, List.foldl_cons, List.foldl_nil]
      unfold gvM wbt better
      dsimp only
      refine ⟨by rw [up_row (by decide), up_s], by rw [up_s]; rfl, fun i x hx => by simp at hx, rfl, fun u hu => by cases hu⟩
  · obtain ⟨s1, e1⟩ : ∃ s1, up (up s 55 0 0) 56 0 0 = s1 := ⟨_, rfl⟩
    have o1 : only [55, 56] s s1 := by rw [← e1]; exact (only.up (by decide)).tr (only.up (by decide))
    have M1 : mgR s1 n nv 1 cn := hM.kept (o1 36 (by decide)) (o1 52 (by decide))
    have s55 : s1 55 0 = 0 := by rw [← e1, up_row (by decide), up_s]
    obtain ⟨s2, b1, b2⟩ := first_ev hof M1 (by omega)
    have o2 : only [53, 54, 55, 56] s s2 := (o1.mono (by intro k; simp; omega)).tr (b1.mono (by intro k; simp; omega))
    have g2 : gvM s2 n nv wl none := by
      unfold gvM
      dsimp only
      rw [b1 55 (by decide)]; exact s55
    rw [if_neg h0]
    rcases b2 with ⟨b2, b3⟩ | ⟨pr', k', b2, b3, b4, b5, b6, b7⟩
    · refine ⟨s2, ?_, o2, ?_⟩
      · unfold mLg
        refine st_gd (by decide) (st_bnd (st_be e1 (st_t (by rw [s55]; exact i32_0) (st_bind b3 (st_bnd ?_)))))
        obtain ⟨f, hf⟩ := FU_s
        rw [hf, m_laysGiving_L45]
        exact st_t i32_0 rfl
      · unfold gvF
        rw [b2]
        exact g2
    · have hlen := rws_len h7 (cb := cbF cn of) n []
      have h7n : 7 ^ n ≤ 7 ^ 6 := Nat.pow_le_pow_right (by decide) h6
      have h76 : (7 : Nat) ^ 6 = 117649 := by decide
      rw [b2, List.length_cons] at hlen
      obtain ⟨s3, c1, c2, c3⟩ := giv_go hof (fun (s65 : MS) => some (0, s65)) _ pr' k' FU s2 none rfl (M1.kept (b1 36 (by decide)) (b1 52 (by decide))) (fun o v q1 q2 q3 q4 => by rw [o2 51 (by decide)]; exact hW o v q1 q2 q3 q4) b3 b5 b4 b7 g2 (by omega)
      refine ⟨s3, ?_, o2.tr c2, ?_⟩
      · unfold mLg
        exact st_gd (by decide) (st_bnd (st_be e1 (st_t (by rw [s55]; exact i32_0) (st_bind b6 (st_bnd c1)))))
      · unfold gvF
        rw [b2, List.foldl_cons]
        exact c3
end
