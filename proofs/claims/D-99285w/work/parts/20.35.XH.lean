set_option maxRecDepth 100000
/-! LAYER 2: the system's switch over words -/
def hshF (l : List Int) (a : Int) : Int := l.foldl (fun a c => 31 * a + c) a
section
variable {τ : XS}
theorem hash_go {a : Int} {w : List Int} (fa : fre a) (ta : τ a (-1) = 102) (la : τ a (-2) = w.length) (hm : w.length ≤ 2000) (hw : ∀ (i : Nat) (x : Int), w[i]? = some x → τ a i = x ∧ 0 ≤ x ∧ x < 128) (k : Int → XS → Option (Int × XS)) :
    ∀ (d fuel i : Nat) (h : Int), i + d = w.length → d < fuel → j10_signedHashCode_L8 true a k fuel h w.length i τ = k (hshF (w.drop i) h) τ := by
  intro d
  induction d with
  | zero =>
    intro fuel i h hd hf
    obtain ⟨g, rfl⟩ : ∃ g, fuel = g + 1 := ⟨fuel - 1, by omega⟩
    rw [List.drop_eq_nil_of_le (by omega), j10_signedHashCode_L8]
    simp (disch := omega) only [gd_t, gd_T, gd_ok, not_false_eq_true, eq_self, bnd_r, bind_s, ite_t, ite_n, ite_T, ite_F, i32_id]
    rfl
  | succ d ih =>
    intro fuel i h hd hf
    obtain ⟨g, rfl⟩ : ∃ g, fuel = g + 1 := ⟨fuel - 1, by omega⟩
    have e1 : w[i]? = some (w[i]'(by omega)) := List.getElem?_eq_getElem (by omega)
    rw [List.drop_eq_getElem_cons (show i < w.length by omega)]
    have q1 := hw i _ e1
    generalize w[i]'(by omega) = x at *
    have ih' := ih g (i + 1) (31 * h + x) (by omega) (by omega)
    rw [j10_signedHashCode_L8]
    simp (disch := omega) only [gd_t, gd_T, gd_ok, not_false_eq_true, eq_self, bnd_r, bind_s, ite_t, ite_n, ite_T, ite_F, i32_id, tgf fa ta, ln_fre fa, la, q1.1, and255 q1.2]
    rw [show ((i : Int) + 1) = ((i + 1 : Nat) : Int) by omega, ih']
    rfl
/-- the hash of a word's string, kept in it -/
def hkept (τ : XS) (c : Int) (w : List Int) : Prop := (τ c 2 = 0 ∧ τ c 3 = 0) ∨ (τ c 2 = hshF w 0 ∧ ¬ i32 (hshF w 0) = 0) ∨ (τ c 2 = 0 ∧ i32 (hshF w 0) = 0 ∧ ¬ i32 (τ c 3) = 0)
theorem hash_ev {c : Int} {w : List Int} (h : strX τ c w) (hc : 1514 ≤ c) (hk : hkept τ c w) (h2 : 1 ≤ w.length) : ∃ v τ', j6_hashCode true c τ = some (v, τ') ∧ i32 v = i32 (hshF w 0) ∧ (∀ y, y ≠ c → τ' y = τ y) ∧ (∀ i, i ≠ 2 → i ≠ 3 → τ' c i = τ c i) ∧ hkept τ' c w := by
  obtain ⟨⟨a1, a2⟩, a3, ⟨b1, b2⟩, b3, b4, b5⟩ := id h
  have t1 := tgf (t := 22) a1 a2
  have t2 := tgf (t := 102) b1 b2
  have n1 := fre_nf b1
  rcases hk with ⟨k1, k2⟩ | ⟨k1, k2⟩ | ⟨k1, k2, k3⟩
  · -- counted
    have hcount : j9_hashCode true (τ c 0) τ = some (hshF w 0, τ) := by
      unfold j9_hashCode
      have hl : ln true τ (τ c 0) = w.length := by rw [ln_fre b1]; exact b3
      by_cases q1 : w.length = 1
      · obtain ⟨x, rfl⟩ : ∃ x, w = [x] := List.length_eq_one_iff.mp q1
        have q := b5 0 x rfl
        rw [show ((0 : Nat) : Int) = 0 from rfl] at q
        have e : hshF [x] 0 = x := by simp [hshF]
        rw [e]
        simp (disch := omega) only [gd_t, gd_T, gd_ok, not_false_eq_true, eq_self, bnd_r, bind_s, ite_t, ite_n, ite_T, ite_F, i32_id, t2, hl, q.1, and255 q.2, show (([x] : List Int).length : Int) = 1 from rfl]
      · unfold j10_vectorizedHashCode j10_signedHashCode
        have hgo := hash_go b1 b2 b3 b4 b5 (fun (x0_17 : Int) (s18 : XS) => some (x0_17, s18)) w.length FU 0 0 (by omega) (by have := FU_ge; omega)
        rw [List.drop_zero, show ((0 : Nat) : Int) = 0 from rfl] at hgo
        simp (disch := omega) only [gd_t, gd_T, gd_ok, not_false_eq_true, eq_self, bnd_r, bind_s, ite_t, ite_n, ite_T, ite_F, i32_id, t2, hl, Int.zero_add, hgo]
    have hl1 : j6_isLatin1 true c τ = some (1, τ) := by
      unfold j6_isLatin1
      simp (disch := omega) only [gd_t, gd_T, gd_ok, not_false_eq_true, eq_self, bnd_r, bind_s, ite_t, ite_n, ite_T, ite_F, i32_id, t1, a3]
    by_cases z : i32 (hshF w 0) = 0
    · refine ⟨hshF w 0, ux τ c 3 1, ?_, rfl, fun y hy => ux_cell hy, fun i i1 i2 => ux_i _ _ _ _ i2, Or.inr (Or.inr ⟨by rw [ux_i _ _ _ _ (by decide)]; exact k1, z, by rw [ux_s]; decide⟩)⟩
      unfold j6_hashCode
      simp (disch := omega) only [gd_t, gd_T, gd_ok, not_false_eq_true, eq_self, bnd_r, bind_s, ite_t, ite_n, ite_T, ite_F, i32_id, t1, k1, k2, hl1, n1, hcount]
    · refine ⟨hshF w 0, ux τ c 2 (hshF w 0), ?_, rfl, fun y hy => ux_cell hy, fun i i1 i2 => ux_i _ _ _ _ i1, Or.inr (Or.inl ⟨by rw [ux_s], z⟩)⟩
      unfold j6_hashCode
      simp (disch := omega) only [gd_t, gd_T, gd_ok, not_false_eq_true, eq_self, bnd_r, bind_s, ite_t, ite_n, ite_T, ite_F, i32_id, t1, k1, k2, hl1, n1, hcount]
  · refine ⟨hshF w 0, τ, ?_, rfl, fun _ _ => rfl, fun _ _ _ => rfl, Or.inr (Or.inl ⟨k1, k2⟩)⟩
    unfold j6_hashCode
    rw [gd_t t1, bnd_r, k1, if_neg k2]
  · refine ⟨0, τ, ?_, by rw [k2]; decide, fun _ _ => rfl, fun _ _ _ => rfl, Or.inr (Or.inr ⟨k1, k2, k3⟩)⟩
    unfold j6_hashCode
    rw [gd_t t1, bnd_r, k1, if_pos i32_0, gd_t t1, if_neg k3]
theorem strX.of2 {τ' : XS} {c : Int} {w : List Int} (h : strX τ c w) (h0 : τ' c (-1) = τ c (-1) ∧ τ' c 0 = τ c 0 ∧ τ' c 1 = τ c 1) (h1 : τ' (τ c 0) = τ (τ c 0)) : strX τ' c w := by
  unfold strX at *
  rw [h0.1, h0.2.1, h0.2.2, h1]
  exact h
end
noncomputable def xN2 (x2_6 : Int) (x4_7 : Int) (s8 : XS) : Option RX :=
      if i32 x4_7 = 0 then
        gd (¬ (s8 7 6) = -1) <|
        gd (tg true s8 (s8 7 6) = 2) <|
        gd (¬ (s8 (s8 7 6) 4) = -1) <|
        gd (tg true s8 (s8 (s8 7 6) 4) = 21) <|
        Option.bind (j2_size true (s8 (s8 7 6) 4) s8) fun z13 =>
        bnd (fun (x2_15 : Int) (w16 : Int) (s17 : XS) =>
            Option.bind (x2_most w16 x2_15 s17) fun z18 =>
            if z18.1 = 0 then
            Option.bind (x2_fresh z18.2.2) fun z20 =>
            if z20.1 = 0 then
            bnd z20.2.1 fun x5_22 =>
            Option.bind (x2_number_2 (z20.2.2 (-1) 124) 0 9 z20.2.2) fun z23 =>
            if z23.1 = 0 then
            bnd z23.2.1 fun x6_25 =>
            Option.bind (x2_number 0 9 z23.2.2) fun z26 =>
            if z26.1 = 0 then
            bnd z26.2.1 fun x7_28 =>
            gd (¬ (z26.2.2 7 6) = -1) <|
            gd (tg true z26.2.2 (z26.2.2 7 6) = 2) <|
            gd (¬ (z26.2.2 (z26.2.2 7 6) 4) = -1) <|
            gd (0 ≤ z26.2.2 (-1) 0 ∧ 0 ≤ z26.2.2 (-1) 1) <|
            bnd (nwx z26.2.2 9 0 4 (dfl 9)) fun s33 =>
            Option.bind (x2_number_2 (s33 (-1) 125) 0 9 s33) fun z34 =>
            if z34.1 = 0 then
            Option.bind (x10_init true (z26.2.2 (-1) 0) x5_22 x6_25 x7_28 z34.2.1 z34.2.2) fun z36 =>
            gd (tg true z36.2 (z26.2.2 (z26.2.2 7 6) 4) = 21) <|
            Option.bind (j2_add true (z26.2.2 (z26.2.2 7 6) 4) (z26.2.2 (-1) 0) z36.2) fun z37 =>
            some (0, 1, z37.2)
            else some (1, 0, z34.2.2)
            else some (1, 0, z26.2.2)
            else some (1, 0, z23.2.2)
            else some (1, 0, z20.2.2)
            else some (1, 0, z18.2.2)) fun j39 =>
        if i32 z13.1 = i32 6 then
          j39 x2_6 1 z13.2
        else
          j39 x2_6 0 z13.2
      else
      if i32 x4_7 = 1 then
        gd (¬ (s8 7 6) = -1) <|
        gd (tg true s8 (s8 7 6) = 2) <|
        gd (¬ (s8 (s8 7 6) 5) = -1) <|
        gd (tg true s8 (s8 (s8 7 6) 5) = 21) <|
        Option.bind (j2_size true (s8 (s8 7 6) 5) s8) fun z45 =>
        bnd (fun (x2_47 : Int) (w48 : Int) (s49 : XS) =>
            Option.bind (x2_most w48 x2_47 s49) fun z50 =>
            if z50.1 = 0 then
            Option.bind (x2_fresh z50.2.2) fun z52 =>
            if z52.1 = 0 then
            bnd z52.2.1 fun x8_54 =>
            Option.bind (x2_number_2 (z52.2.2 (-1) 126) 0 9 z52.2.2) fun z55 =>
            if z55.1 = 0 then
            bnd z55.2.1 fun x9_57 =>
            gd (¬ (z55.2.2 7 6) = -1) <|
            gd (tg true z55.2.2 (z55.2.2 7 6) = 2) <|
            gd (¬ (z55.2.2 (z55.2.2 7 6) 5) = -1) <|
            gd (0 ≤ z55.2.2 (-1) 0 ∧ 0 ≤ z55.2.2 (-1) 1) <|
            bnd (nwx z55.2.2 10 0 3 (dfl 10)) fun s62 =>
            Option.bind (x2_number_2 (s62 (-1) 127) 0 9 s62) fun z63 =>
            if z63.1 = 0 then
            Option.bind (x11_init true (z55.2.2 (-1) 0) x8_54 x9_57 z63.2.1 z63.2.2) fun z65 =>
            gd (tg true z65.2 (z55.2.2 (z55.2.2 7 6) 5) = 21) <|
            Option.bind (j2_add true (z55.2.2 (z55.2.2 7 6) 5) (z55.2.2 (-1) 0) z65.2) fun z66 =>
            some (0, 1, z66.2)
            else some (1, 0, z63.2.2)
            else some (1, 0, z55.2.2)
            else some (1, 0, z52.2.2)
            else some (1, 0, z50.2.2)) fun j68 =>
        if i32 z45.1 = i32 7 then
          j68 x2_6 1 z45.2
        else
          j68 x2_6 0 z45.2
      else
      if i32 x4_7 = 2 then
        gd (¬ (s8 7 6) = -1) <|
        gd (tg true s8 (s8 7 6) = 2) <|
        gd (¬ (s8 (s8 7 6) 5) = -1) <|
        Option.bind (x2_name s8) fun z74 =>
        if z74.1 = 0 then
        Option.bind (x9_find true (s8 (s8 7 6) 5) z74.2.1 z74.2.2) fun z76 =>
        bnd z76.1 fun x10_77 =>
        bnd (fun (s78 : XS) =>
            Option.bind (x2_wrong 3 (s78 7 3) s78) fun z79 =>
            gd (z79.1 = 8) <|
            some (1, 0, z79.2)) fun j81 =>
        if i32 x10_77 = i32 (-1) then
          j81 z76.2
        else
          gd (¬ (z76.2 7 6) = -1) <|
          gd (tg true z76.2 (z76.2 7 6) = 2) <|
          Option.bind (x0_has (z76.2 (z76.2 7 6) 2) x10_77 z76.2) fun z85 =>
          if i32 z85.1 = 0 then
            gd (¬ (z85.2 7 6) = -1) <|
            gd (tg true z85.2 (z85.2 7 6) = 2) <|
            gd (tg true z85.2 (z85.2 7 6) = 2) <|
            gd (0 ≤ (z85.2 7 6) ∧ ¬ (1438 ≤ (z85.2 7 6) ∧ (z85.2 7 6) < 1514)) <|
            bnd (ux z85.2 (z85.2 7 6) 2 (ior (z85.2 (z85.2 7 6) 2) (ishl 1 x10_77))) fun s91 =>
            some (0, 1, s91)
          else
            j81 z85.2
        else some (1, 0, z74.2.2)
      else
        some (0, 0, s8)
noncomputable def xM2 (x2_6 : Int) (x4_7 : Int) (s8 : XS) : Option RX :=
      if i32 x4_7 = 0 then
        gd (¬ (s8 7 6) = -1) <|
        gd (tg true s8 (s8 7 6) = 2) <|
        bnd (fun (x2_12 : Int) (w13 : Int) (s14 : XS) =>
            Option.bind (x2_most w13 x2_12 s14) fun z15 =>
            if z15.1 = 0 then
            bnd (ux z15.2.2 7 5 31) fun s17 =>
            gd (¬ (s17 7 6) = -1) <|
            Option.bind (x2_test (x2_fact 9) s17) fun z19 =>
            if z19.1 = 0 then
            gd (tg true z19.2.2 (s17 7 6) = 2) <|
            gd (0 ≤ (s17 7 6) ∧ ¬ (1438 ≤ (s17 7 6) ∧ (s17 7 6) < 1514)) <|
            gd (¬ z19.2.1 = -1) <|
            bnd (ux z19.2.2 (s17 7 6) 6 z19.2.1) fun s24 =>
            some (0, 0, s24)
            else some (1, 0, z19.2.2)
            else some (1, 0, z15.2.2)) fun j25 =>
        if (s8 (s8 7 6) 6) = -1 then
          j25 x2_6 0 s8
        else
          j25 x2_6 1 s8
      else
      if i32 x4_7 = 1 then
        gd (¬ (s8 7 6) = -1) <|
        gd (¬ (s8 7 6) = -1) <|
        gd (tg true s8 (s8 7 6) = 2) <|
        Option.bind (x2_once (s8 (s8 7 6) 7) x2_6 s8) fun z31 =>
        if z31.1 = 0 then
        gd (tg true z31.2.2 (s8 7 6) = 2) <|
        gd (0 ≤ (s8 7 6) ∧ ¬ (1438 ≤ (s8 7 6) ∧ (s8 7 6) < 1514)) <|
        gd (¬ z31.2.1 = -1) <|
        bnd (ux z31.2.2 (s8 7 6) 7 z31.2.1) fun s36 =>
        some (0, 0, s36)
        else some (1, 0, z31.2.2)
      else
      if i32 x4_7 = 2 then
        gd (¬ (s8 7 6) = -1) <|
        gd (¬ (s8 7 6) = -1) <|
        gd (tg true s8 (s8 7 6) = 2) <|
        Option.bind (x2_once (s8 (s8 7 6) 8) x2_6 s8) fun z41 =>
        if z41.1 = 0 then
        gd (tg true z41.2.2 (s8 7 6) = 2) <|
        gd (0 ≤ (s8 7 6) ∧ ¬ (1438 ≤ (s8 7 6) ∧ (s8 7 6) < 1514)) <|
        gd (¬ z41.2.1 = -1) <|
        bnd (ux z41.2.2 (s8 7 6) 8 z41.2.1) fun s46 =>
        some (0, 0, s46)
        else some (1, 0, z41.2.2)
      else
      if i32 x4_7 = 3 then
        gd (¬ (s8 7 6) = -1) <|
        Option.bind (x2_number 0 100 s8) fun z49 =>
        if z49.1 = 0 then
        gd (tg true z49.2.2 (s8 7 6) = 2) <|
        gd (0 ≤ (s8 7 6) ∧ ¬ (1438 ≤ (s8 7 6) ∧ (s8 7 6) < 1514)) <|
        bnd (ux z49.2.2 (s8 7 6) 3 z49.2.1) fun s53 =>
        some (0, 0, s53)
        else some (1, 0, z49.2.2)
      else
        Option.bind (x2_wrong 1 x2_6 s8) fun z54 =>
        gd (z54.1 = 8) <|
        some (1, 0, z54.2)
def namK (w : List Int) : Int := if w = wo 11 then 0 else if w = wo 14 then 1 else if w = wo 17 then 2 else -1
def morK (w : List Int) : Int := if w = wo 18 then 0 else if w = wo 19 then 1 else if w = wo 20 then 2 else if w = wo 21 then 3 else -1
section
variable {T : Int → Int} {n : Int} {τ : XS}
theorem named_sw {c p pl : Int} {w : List Int} (hw : strX τ c w) (hc : 1514 ≤ c) (hk : hkept τ c w) (h1 : 1 ≤ w.length) (hG : xG T n τ p) : ∃ τ', x2_named c pl τ = xN2 pl (namK w) τ' ∧ (∀ y, y ≠ c → τ' y = τ y) ∧ (∀ i, i ≠ 2 → i ≠ 3 → τ' c i = τ c i) ∧ hkept τ' c w := by
  obtain ⟨v, τ', e1, e2, e3, e4, e5⟩ := hash_ev hw hc hk h1
  refine ⟨τ', ?_, e3, e4, e5⟩
  have hw' : strX τ' c w := hw.of2 ⟨e4 _ (by decide) (by decide), e4 _ (by decide) (by decide), e4 _ (by decide) (by decide)⟩ (e3 _ (fun e => by have h1 := hw.2.2.1.2; have h2 := hw.1.2; rw [e] at h1; omega))
  have t0 := tgf (t := 22) hw.1.1 hw.1.2
  have t1 := tgf (t := 22) hw'.1.1 hw'.1.2
  have hcs : ∀ q ∈ csl, j6_equals true c (τ' (-1) q.1) τ' = some (b2i (decide (w = q.2)), τ') := fun q hq => by
    have hs := hG.2.2.2.2.2.2.1 q hq
    have hn1 : τ' (-1) = τ (-1) := e3 _ (by omega)
    rw [hn1]
    by_cases qc : τ (-1) q.1 = c
    · rw [qc] at hs ⊢
      have hs' : strX τ' c q.2 := hs.of2 ⟨e4 _ (by decide) (by decide), e4 _ (by decide) (by decide), e4 _ (by decide) (by decide)⟩ (e3 _ (fun e => by have h1 := hw.2.2.1.2; have h2 := hw.1.2; rw [e] at h1; omega))
      exact equals_ev hw' hs' (Or.inl (by omega))
    · have hv : τ (τ (-1) q.1) 0 ≠ c := fun e => by have h1 := hs.2.2.1.2; have h2 := hw.1.2; rw [e] at h1; omega
      have hs' : strX τ' (τ (-1) q.1) q.2 := hs.of2 ⟨by rw [e3 _ qc], by rw [e3 _ qc], by rw [e3 _ qc]⟩ (by rw [e3 _ hv])
      exact equals_ev hw' hs' (Or.inl (by omega))
  have q121 := hcs (121, [115, 97, 121, 105, 110, 103]) (by decide)
  have q123 := hcs (123, [108, 101, 110, 116]) (by decide)
  have q122 := hcs (122, [118, 101, 114, 98]) (by decide)
  unfold x2_named namK
  refine st_bnd (st_gd t0 (st_bind e1 (st_bnd ?_)))
  by_cases h11 : w = wo 11
  · rw [if_pos h11]
    have hv : i32 v = -909324265 := by rw [e2, h11]; decide
    rw [decide_eq_true (show w = ((121, [115, 97, 121, 105, 110, 103]) : Int × List Int).2 from h11), b2i_1] at q121
    exact st_t hv (st_gd t1 (st_bind q121 (st_f n10 (st_bnd rfl))))
  · rw [if_neg h11]
    rw [decide_eq_false (show ¬ w = ((121, [115, 97, 121, 105, 110, 103]) : Int × List Int).2 from h11), b2i_0] at q121
    by_cases c1 : i32 v = -909324265
    · have h14 : ¬ w = wo 14 := fun e => by rw [e2, e] at c1; revert c1; decide
      have h17 : ¬ w = wo 17 := fun e => by rw [e2, e] at c1; revert c1; decide
      rw [if_neg h14, if_neg h17]
      exact st_t c1 (st_gd t1 (st_bind q121 (st_t i32_0 rfl)))
    · refine st_f c1 ?_
      by_cases h17 : w = wo 17
      · have hv : i32 v = 3318015 := by rw [e2, h17]; decide
        rw [if_neg (show ¬ w = wo 14 by rw [h17]; decide), if_pos h17]
        rw [decide_eq_true (show w = ((123, [108, 101, 110, 116]) : Int × List Int).2 from h17), b2i_1] at q123
        exact st_t hv (st_gd t1 (st_bind q123 (st_f n10 (st_bnd rfl))))
      · rw [decide_eq_false (show ¬ w = ((123, [108, 101, 110, 116]) : Int × List Int).2 from h17), b2i_0] at q123
        by_cases c2 : i32 v = 3318015
        · have h14 : ¬ w = wo 14 := fun e => by rw [e2, e] at c2; revert c2; decide
          rw [if_neg h14, if_neg h17]
          exact st_t c2 (st_gd t1 (st_bind q123 (st_t i32_0 rfl)))
        · refine st_f c2 ?_
          by_cases h14 : w = wo 14
          · have hv : i32 v = 3616031 := by rw [e2, h14]; decide
            rw [if_pos h14]
            rw [decide_eq_true (show w = ((122, [118, 101, 114, 98]) : Int × List Int).2 from h14), b2i_1] at q122
            exact st_t hv (st_gd t1 (st_bind q122 (st_f n10 (st_bnd rfl))))
          · rw [if_neg h14, if_neg h17]
            rw [decide_eq_false (show ¬ w = ((122, [118, 101, 114, 98]) : Int × List Int).2 from h14), b2i_0] at q122
            by_cases c3 : i32 v = 3616031
            · exact st_t c3 (st_gd t1 (st_bind q122 (st_t i32_0 rfl)))
            · exact st_f c3 rfl
theorem more_sw {c p pl : Int} {w : List Int} (hw : strX τ c w) (hc : 1514 ≤ c) (hk : hkept τ c w) (h1 : 1 ≤ w.length) (hG : xG T n τ p) : ∃ τ', x2_more c pl τ = xM2 pl (morK w) τ' ∧ (∀ y, y ≠ c → τ' y = τ y) ∧ (∀ i, i ≠ 2 → i ≠ 3 → τ' c i = τ c i) ∧ hkept τ' c w := by
  obtain ⟨v, τ', e1, e2, e3, e4, e5⟩ := hash_ev hw hc hk h1
  refine ⟨τ', ?_, e3, e4, e5⟩
  have hw' : strX τ' c w := hw.of2 ⟨e4 _ (by decide) (by decide), e4 _ (by decide) (by decide), e4 _ (by decide) (by decide)⟩ (e3 _ (fun e => by have h1 := hw.2.2.1.2; have h2 := hw.1.2; rw [e] at h1; omega))
  have t0 := tgf (t := 22) hw.1.1 hw.1.2
  have t1 := tgf (t := 22) hw'.1.1 hw'.1.2
  have hcs : ∀ q ∈ csl, j6_equals true c (τ' (-1) q.1) τ' = some (b2i (decide (w = q.2)), τ') := fun q hq => by
    have hs := hG.2.2.2.2.2.2.1 q hq
    have hn1 : τ' (-1) = τ (-1) := e3 _ (by omega)
    rw [hn1]
    by_cases qc : τ (-1) q.1 = c
    · rw [qc] at hs ⊢
      have hs' : strX τ' c q.2 := hs.of2 ⟨e4 _ (by decide) (by decide), e4 _ (by decide) (by decide), e4 _ (by decide) (by decide)⟩ (e3 _ (fun e => by have h1 := hw.2.2.1.2; have h2 := hw.1.2; rw [e] at h1; omega))
      exact equals_ev hw' hs' (Or.inl (by omega))
    · have hv : τ (τ (-1) q.1) 0 ≠ c := fun e => by have h1 := hs.2.2.1.2; have h2 := hw.1.2; rw [e] at h1; omega
      have hs' : strX τ' (τ (-1) q.1) q.2 := hs.of2 ⟨by rw [e3 _ qc], by rw [e3 _ qc], by rw [e3 _ qc]⟩ (by rw [e3 _ hv])
      exact equals_ev hw' hs' (Or.inl (by omega))
  have q129 := hcs (129, [119, 101, 108, 108]) (by decide)
  have q131 := hcs (131, [100, 105, 116, 99, 104]) (by decide)
  have q128 := hcs (128, [116, 97, 107, 101, 115]) (by decide)
  have q130 := hcs (130, [116, 117, 114, 110, 115]) (by decide)
  unfold x2_more morK
  refine st_bnd (st_gd t0 (st_bind e1 (st_bnd ?_)))
  by_cases h19 : w = wo 19
  · have hv : i32 v = 3645646 := by rw [e2, h19]; decide
    rw [if_neg (show ¬ w = wo 18 by rw [h19]; decide), if_pos h19]
    rw [decide_eq_true (show w = ((129, [119, 101, 108, 108]) : Int × List Int).2 from h19), b2i_1] at q129
    exact st_t hv (st_gd t1 (st_bind q129 (st_f n10 (st_bnd rfl))))
  · rw [decide_eq_false (show ¬ w = ((129, [119, 101, 108, 108]) : Int × List Int).2 from h19), b2i_0] at q129
    by_cases c1 : i32 v = 3645646
    · have h18 : ¬ w = wo 18 := fun e => by rw [e2, e] at c1; revert c1; decide
      have h20 : ¬ w = wo 20 := fun e => by rw [e2, e] at c1; revert c1; decide
      have h21 : ¬ w = wo 21 := fun e => by rw [e2, e] at c1; revert c1; decide
      rw [if_neg h18, if_neg h19, if_neg h20, if_neg h21]
      exact st_t c1 (st_gd t1 (st_bind q129 (st_t i32_0 rfl)))
    · refine st_f c1 ?_
      by_cases h21 : w = wo 21
      · have hv : i32 v = 95594804 := by rw [e2, h21]; decide
        rw [if_neg (show ¬ w = wo 18 by rw [h21]; decide), if_neg h19, if_neg (show ¬ w = wo 20 by rw [h21]; decide), if_pos h21]
        rw [decide_eq_true (show w = ((131, [100, 105, 116, 99, 104]) : Int × List Int).2 from h21), b2i_1] at q131
        exact st_t hv (st_gd t1 (st_bind q131 (st_f n10 (st_bnd rfl))))
      · rw [decide_eq_false (show ¬ w = ((131, [100, 105, 116, 99, 104]) : Int × List Int).2 from h21), b2i_0] at q131
        by_cases c2 : i32 v = 95594804
        · have h18 : ¬ w = wo 18 := fun e => by rw [e2, e] at c2; revert c2; decide
          have h20 : ¬ w = wo 20 := fun e => by rw [e2, e] at c2; revert c2; decide
          rw [if_neg h18, if_neg h19, if_neg h20, if_neg h21]
          exact st_t c2 (st_gd t1 (st_bind q131 (st_t i32_0 rfl)))
        · refine st_f c2 ?_
          by_cases h18 : w = wo 18
          · have hv : i32 v = 110124236 := by rw [e2, h18]; decide
            rw [if_pos h18]
            rw [decide_eq_true (show w = ((128, [116, 97, 107, 101, 115]) : Int × List Int).2 from h18), b2i_1] at q128
            exact st_t hv (st_gd t1 (st_bind q128 (st_f n10 (st_bnd rfl))))
          · rw [if_neg h18, if_neg h19]
            rw [decide_eq_false (show ¬ w = ((128, [116, 97, 107, 101, 115]) : Int × List Int).2 from h18), b2i_0] at q128
            by_cases c3 : i32 v = 110124236
            · have h20 : ¬ w = wo 20 := fun e => by rw [e2, e] at c3; revert c3; decide
              rw [if_neg h20, if_neg h21]
              exact st_t c3 (st_gd t1 (st_bind q128 (st_t i32_0 rfl)))
            · refine st_f c3 ?_
              by_cases h20 : w = wo 20
              · have hv : i32 v = 110727062 := by rw [e2, h20]; decide
                rw [if_pos h20]
                rw [decide_eq_true (show w = ((130, [116, 117, 114, 110, 115]) : Int × List Int).2 from h20), b2i_1] at q130
                exact st_t hv (st_gd t1 (st_bind q130 (st_f n10 (st_bnd rfl))))
              · rw [if_neg h20, if_neg h21]
                rw [decide_eq_false (show ¬ w = ((130, [116, 117, 114, 110, 115]) : Int × List Int).2 from h20), b2i_0] at q130
                by_cases c4 : i32 v = 110727062
                · exact st_t c4 (st_gd t1 (st_bind q130 (st_t i32_0 rfl)))
                · exact st_f c4 rfl
end
