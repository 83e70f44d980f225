set_option maxRecDepth 100000
/-! LAYER 2: verbs chosen in turn: plainly, and by the system -/
/-- the verb that is best, the first of the best: of those left, k verbs to try; b so far -/
def pkF (nv : Nat) (left : Int) (nf : Int → Int) : Nat → Int → Int
  | 0, b => b
  | k + 1, b => pkF nv left nf k (if bit left ((nv : Int) - ((k : Int) + 1)) = true then (if b = -1 then (nv : Int) - ((k : Int) + 1) else if nf b < nf ((nv : Int) - ((k : Int) + 1)) then (nv : Int) - ((k : Int) + 1) else b) else b)
/-- without a verb -/
def clr (left v : Int) : Int := iand left (ixor (ishl 1 v) (-1))
/-- how much more the one has than the other, m choices to come -/
def chF (nv : Nat) (wl : Int → Int → Int) : Nat → Int → Int → Int → Int
  | 0, _, _, _ => 0
  | m + 1, one, other, left => if left = 0 then 0 else wl one (pkF nv left (fun v => wl one v - chF nv wl m other one (clr left v)) nv (-1)) - chF nv wl m other one (clr left (pkF nv left (fun v => wl one v - chF nv wl m other one (clr left v)) nv (-1)))
/-- what choosing a verb brings -/
def nfF (nv : Nat) (wl : Int → Int → Int) (m : Nat) (one other left : Int) : Int → Int := fun v => wl one v - chF nv wl m other one (clr left v)
theorem chF_s {nv : Nat} {wl : Int → Int → Int} {m : Nat} {one other left : Int} (h : ¬ left = 0) : chF nv wl (m + 1) one other left = nfF nv wl m one other left (pkF nv left (nfF nv wl m one other left) nv (-1)) := by
  rw [chF, if_neg h]
  rfl
theorem chF_0 {nv : Nat} {wl : Int → Int → Int} {one other : Int} : ∀ m, chF nv wl m one other 0 = 0
  | 0 => rfl
  | m + 1 => by rw [chF, if_pos rfl]
theorem pkF_b {nv : Nat} {left : Int} {nf : Int → Int} : ∀ (k : Nat) (b : Int), k ≤ nv → (b = -1 ∨ (0 ≤ b ∧ b < nv ∧ bit left b = true)) → (pkF nv left nf k b = -1 ∨ (0 ≤ pkF nv left nf k b ∧ pkF nv left nf k b < nv ∧ bit left (pkF nv left nf k b) = true))
  | 0, b, _, h => h
  | k + 1, b, hk, h => by
    rw [pkF]
    refine pkF_b k _ (by omega) ?_
    split
    · rename_i c
      split
      · exact Or.inr ⟨by omega, by omega, c⟩
      · split
        · exact Or.inr ⟨by omega, by omega, c⟩
        · exact h
    · exact h
theorem pkF_n {nv : Nat} {left : Int} {nf : Int → Int} : ∀ (k : Nat) (b : Int), k ≤ nv → b ≠ -1 → 0 ≤ b → pkF nv left nf k b ≠ -1
  | 0, b, _, h, _ => h
  | k + 1, b, hk, h, h0 => by
    rw [pkF, if_neg h]
    refine pkF_n k _ (by omega) ?_ ?_
    · split
      · split
        · omega
        · exact h
      · exact h
    · split
      · split
        · omega
        · exact h0
      · exact h0
theorem pkF_y {nv : Nat} {left : Int} {nf : Int → Int} {v : Int} (hv : 0 ≤ v ∧ v < nv) (hb : bit left v = true) : ∀ (k : Nat) (b : Int), k ≤ nv → (nv : Int) - k ≤ v → (b = -1 ∨ 0 ≤ b) → pkF nv left nf k b ≠ -1
  | 0, b, _, h, _ => by omega
  | k + 1, b, hk, h, h0 => by
    rw [pkF]
    by_cases e : v = (nv : Int) - ((k : Int) + 1)
    · rw [← e, if_pos hb]
      by_cases q : b = -1
      · rw [if_pos q]; exact pkF_n k _ (by omega) (by omega) (by omega)
      · rw [if_neg q]
        split
        · exact pkF_n k _ (by omega) (by omega) (by omega)
        · exact pkF_n k _ (by omega) q (by omega)
    · refine pkF_y hv hb k _ (by omega) (by omega) ?_
      split
      · split
        · right; omega
        · split
          · right; omega
          · exact h0
      · exact h0
theorem clr_bd {a v : Int} (ha : 0 ≤ a ∧ a < 128) (hv : 0 ≤ v ∧ v < 7) : 0 ≤ clr a v ∧ clr a v < 128 := by
  unfold clr
  rw [clr_ev ha hv]
  have := clr_b ha hv
  omega
theorem clr_bt {a v : Int} (ha : 0 ≤ a ∧ a < 128) (hv : 0 ≤ v ∧ v < 7) {q : Int} (hq : 0 ≤ q ∧ q < 7) : bit (clr a v) q = (bit a q && decide (q ≠ v)) := by
  unfold clr
  rw [clr_ev ha hv]
  exact clr_bit ha hv hq
theorem bit_ne0 {a : Int} (ha : 0 ≤ a ∧ a < 128) (h : ¬ a = 0) : ∃ v : Int, 0 ≤ v ∧ v < 7 ∧ bit a v = true := by
  have : ∀ a : Fin 128, a.val ≠ 0 → ∃ v : Fin 7, bit a.val v.val = true := by decide +kernel
  obtain ⟨v, hv⟩ := this ⟨a.toNat, by omega⟩ (by dsimp only; omega)
  dsimp only at hv
  rw [show ((a.toNat : Nat) : Int) = a by omega] at hv
  exact ⟨v.val, by omega, by omega, hv⟩
theorem chF_b {nv n : Nat} (hnv : nv ≤ 7) {wl : Int → Int → Int} (hw : ∀ o v : Int, 0 ≤ o → o < n → 0 ≤ v → v < nv → bd1 (wl o v)) : ∀ (m : Nat) (one other left : Int), (0 ≤ one ∧ one < n) → (0 ≤ other ∧ other < n) → (0 ≤ left ∧ left < 128) → (∀ o : Int, 0 ≤ o → o < 7 → bit left o = true → o < nv) → -1000000 * (m : Int) ≤ chF nv wl m one other left ∧ chF nv wl m one other left ≤ 1000000 * (m : Int)
  | 0, _, _, _, _, _, _, _ => by simp [chF]
  | m + 1, one, other, left, h1, h2, hl, hb => by
    by_cases h0 : left = 0
    · rw [h0, chF_0]; omega
    · rw [chF_s h0]
      obtain ⟨v, v0, v1, v2⟩ := bit_ne0 hl h0
      have hv := hb v v0 v1 v2
      have ny := pkF_y (nf := nfF nv wl m one other left) ⟨v0, hv⟩ v2 nv (-1) (Nat.le_refl _) (by omega) (Or.inl rfl)
      rcases pkF_b (nv := nv) (left := left) (nf := nfF nv wl m one other left) nv (-1) (Nat.le_refl _) (Or.inl rfl) with q | ⟨q1, q2, q3⟩
      · exact absurd q ny
      · have w := hw one _ h1.1 h1.2 q1 q2
        have r := chF_b hnv hw m other one (clr left (pkF nv left (nfF nv wl m one other left) nv (-1))) h2 h1 (clr_bd hl ⟨q1, by omega⟩) (fun o o0 o1 ob => by
          rw [clr_bt hl ⟨q1, by omega⟩ ⟨o0, o1⟩] at ob
          simp at ob
          exact hb o o0 o1 ob.1)
        unfold nfF at w r ⊢
        unfold bd1 at w
        omega
section
variable {τ τ' : XS} {n nv : Nat} {of : Int} {cn : Int → Int → Bool} {wl : Int → Int → Int}
/-- tried's first place, if it is asked -/
def tk0 (τ : XS) (d b : Int) (t : XS) : Prop := (d ≠ 0 ∧ t = τ) ∨ (d = 0 ∧ onx [35] τ t ∧ t 35 0 = b)
theorem tk0.on {d b : Int} {t : XS} (h : tk0 τ d b t) : onx [35] τ t := by
  rcases h with ⟨-, e⟩ | ⟨-, e, -⟩
  · rw [e]; exact onx.rf
  · exact e
theorem nf_bd (hnv : nv ≤ 7) (hg : xgR τ n nv cn wl) {m : Nat} (hm : m ≤ 6) {one other left : Int} (h1 : 0 ≤ one ∧ one < n) (h2 : 0 ≤ other ∧ other < n) (hl : 0 ≤ left ∧ left < 128) (hb : ∀ o : Int, 0 ≤ o → o < 7 → bit left o = true → o < nv) {v : Int} (hv : 0 ≤ v ∧ v < nv) : -7000000 ≤ nfF nv wl m one other left v ∧ nfF nv wl m one other left v ≤ 7000000 := by
  unfold nfF
  have w := (hg one v h1.1 h1.2 hv.1 hv.2).2.2
  have r := chF_b hnv (fun o v a b c d => (hg o v a b c d).2.2) m other one (clr left v) h2 h1 (clr_bd hl ⟨hv.1, by omega⟩) (fun o o0 o1 ob => by
    rw [clr_bt hl ⟨hv.1, by omega⟩ ⟨o0, o1⟩] at ob
    simp at ob
    exact hb o o0 o1 ob.1)
  unfold bd1 at w
  omega
theorem cho_in (hn : n ≤ 6) (hnv : nv ≤ 7) (hct : cty τ n nv) (hg : xgR τ n nv cn wl) (rc : Int → Int → Int → Int → XS → Option (Int × XS)) {m : Nat} (hm : m ≤ 6) {one other left d : Int} (hd : 0 ≤ d ∧ d ≤ 6) (h1 : 0 ≤ one ∧ one < n) (h2 : 0 ≤ other ∧ other < n) (hl : 0 ≤ left ∧ left < 128) (hb : ∀ o : Int, 0 ≤ o → o < 7 → bit left o = true → o < nv)
    (hrc : ∀ (t1 : XS) (v : Int), onx [35] τ t1 → 0 ≤ v → v < nv → bit left v = true → rc other one (clr left v) (d + 1) t1 = some (chF nv wl m other one (clr left v), t1)) :
    ∀ (k fuel : Nat) (b is most : Int) (t1 : XS), k ≤ nv → k < fuel → tk0 τ d b t1 → ((b = -1 ∧ is = 0 ∧ most = 0) ∨ (b ≠ -1 ∧ 0 ≤ b ∧ b < nv ∧ is = 1 ∧ most = nfF nv wl m one other left b)) →
      ∃ t' b', b' = pkF nv left (nfF nv wl m one other left) k b ∧ x6_chooses_B_L22 rc (fun (x6_52 : Int) (s53 : XS) => some (x6_52, s53)) fuel one other left d is most ((nv : Int) - k) t1 = some ((if b' = -1 then 0 else nfF nv wl m one other left b'), t') ∧ tk0 τ d b' t' := by
  obtain ⟨nf, enf⟩ : ∃ nf, nfF nv wl m one other left = nf := ⟨_, rfl⟩
  have hbd : ∀ v : Int, 0 ≤ v ∧ v < nv → -7000000 ≤ nf v ∧ nf v ≤ 7000000 := fun v hv => by rw [← enf]; exact nf_bd hnv hg hm h1 h2 hl hb hv
  have io : i32 one = one := i32_id (by omega) (by omega)
  have oko : ok 6 one := by unfold ok; rw [io]; omega
  rw [enf]
  intro k
  induction k with
  | zero =>
    intro fuel b is most t1 hk hf htk hst
    obtain ⟨g, rfl⟩ : ∃ g, fuel = g + 1 := ⟨fuel - 1, by omega⟩
    have ct1 := hct.kept (htk.on.mono (by simp)) stand_giv
    refine ⟨t1, b, rfl, ?_, htk⟩
    rw [x6_chooses_B_L22]
    refine st_bind (verbs_ev ct1) (st_t ?_ ?_)
    · dsimp only
      rw [show (nv : Int) - ((0 : Nat) : Int) = nv by omega]
      exact Int.le_refl _
    · rcases hst with ⟨q1, -, q3⟩ | ⟨q1, -, -, -, q3⟩
      · rw [if_pos q1, q3]
      · rw [if_neg q1, q3]
  | succ k ihk =>
    intro fuel b is most t1 hk hf htk hst
    obtain ⟨g, rfl⟩ : ∃ g, fuel = g + 1 := ⟨fuel - 1, by omega⟩
    have on1 : onx [19, 34, 35] τ t1 := htk.on.mono (by simp)
    have ct1 := hct.kept on1 stand_giv
    have hg1 := hg.kept hn on1
    obtain ⟨v, ev0⟩ : ∃ v : Int, (nv : Int) - ((k : Int) + 1) = v := ⟨_, rfl⟩
    have ev1 : (nv : Int) - ((k + 1 : Nat) : Int) = v := by omega
    have ev2 : v + 1 = (nv : Int) - (k : Int) := by omega
    have hv : 0 ≤ v ∧ v < nv := by omega
    have iv : i32 v = v := i32_id (by omega) (by omega)
    have okv : ok 7 v := by unfold ok; rw [iv]; omega
    have nle : ¬ i32 (nv : Int) ≤ i32 v := by rw [iv, i32_id (by omega) (by omega)]; omega
    have hh := hasb_ev t1 hl (o := v) (by omega)
    rw [ev1, pkF, ev0, x6_chooses_B_L22]
    by_cases c1 : bit left v = true
    · rw [c1] at hh
      rw [if_pos c1]
      have r1 := hrc t1 v htk.on hv.1 hv.2 c1
      have w1 := (hg1 one v h1.1 h1.2 hv.1 hv.2).2.1
      have env : t1 (27 + 1 + i32 one) (i32 v) - chF nv wl m other one (clr left v) = nf v := by
        rw [io, iv, w1, ← enf]; rfl
      have hbv := hbd v hv
      have inv : i64 (nf v) = nf v := i64_id (by omega) (by omega)
      -- the verb is the new best
      have new : ∀ (b0 : Int), b0 = v → ∃ t' b', b' = pkF nv left nf k b0 ∧ (if i32 d = 0 then
              gd (ok 6 0) <|
              bnd (ux t1 35 (i32 0) v) fun s48 =>
              x6_chooses_B_L22 rc (fun (x6_52 : Int) (s53 : XS) => some (x6_52, s53)) g one other left d 1 (nf v) (v + 1) s48
            else
              x6_chooses_B_L22 rc (fun (x6_52 : Int) (s53 : XS) => some (x6_52, s53)) g one other left d 1 (nf v) (v + 1) t1) = some ((if b' = -1 then 0 else nf b'), t') ∧ tk0 τ d b' t' := fun b0 e0 => by
        by_cases ed : d = 0
        · obtain ⟨t2, e2⟩ : ∃ t2, ux t1 35 0 v = t2 := ⟨_, rfl⟩
          have tk2 : tk0 τ d v t2 := Or.inr ⟨ed, htk.on.tr (by rw [← e2]; exact onx.up (by decide)), by rw [← e2, ux_s]⟩
          obtain ⟨t', b', q1, q2, q3⟩ := ihk g v 1 (nf v) t2 (by omega) (by omega) tk2 (Or.inr ⟨by omega, hv.1, hv.2, rfl, rfl⟩)
          rw [← ev2] at q2
          rw [e0]
          exact ⟨t', b', q1, st_t (by rw [ed]; exact i32_0) (st_gd (by decide) (st_be (by rw [i32_0]; exact e2) q2)), q3⟩
        · have tk2 : tk0 τ d v t1 := by
            rcases htk with ⟨q, e⟩ | ⟨q, -⟩
            · exact Or.inl ⟨q, e⟩
            · exact absurd q ed
          obtain ⟨t', b', q1, q2, q3⟩ := ihk g v 1 (nf v) t1 (by omega) (by omega) tk2 (Or.inr ⟨by omega, hv.1, hv.2, rfl, rfl⟩)
          rw [← ev2] at q2
          rw [e0]
          exact ⟨t', b', q1, st_f (by rw [i32_id (by omega) (by omega)]; exact ed) q2, q3⟩
      rcases hst with ⟨q1, q2, q3⟩ | ⟨q1, q2, q3, q4, q5⟩
      · rw [if_pos q1]
        obtain ⟨t', b', p1, p2, p3⟩ := new v rfl
        refine ⟨t', b', p1, ?_, p3⟩
        refine st_bind (verbs_ev ct1) (st_f nle (st_bind hh (st_bnd (st_f n10 (st_gd oko (st_gd okv (st_bind (z := (chF nv wl m other one (clr left v), t1)) r1 (st_be env (st_bnd (st_t (by rw [q2]; exact i32_0) (st_bnd ?_)))))))))))
        exact p2
      · rw [if_neg q1]
        have n5 : ¬ i32 is = 0 := by rw [q4]; exact n10
        have hbb := hbd b ⟨q2, q3⟩
        have lt : (i64 most < i64 (nf v)) = (nf b < nf v) := by rw [q5, inv, i64_id (by omega) (by omega)]
        by_cases c2 : nf b < nf v
        · rw [if_pos c2]
          obtain ⟨t', b', p1, p2, p3⟩ := new v rfl
          refine ⟨t', b', p1, ?_, p3⟩
          refine st_bind (verbs_ev ct1) (st_f nle (st_bind hh (st_bnd (st_f n10 (st_gd oko (st_gd okv (st_bind (z := (chF nv wl m other one (clr left v), t1)) r1 (st_be env (st_bnd (st_f n5 (st_t (by rw [lt]; exact c2) (st_bnd ?_))))))))))))
          exact p2
        · rw [if_neg c2]
          obtain ⟨t', b', p1, p2, p3⟩ := ihk g b is most t1 (by omega) (by omega) htk (Or.inr ⟨q1, q2, q3, q4, q5⟩)
          rw [← ev2] at p2
          exact ⟨t', b', p1, st_bind (verbs_ev ct1) (st_f nle (st_bind hh (st_bnd (st_f n10 (st_gd oko (st_gd okv (st_bind (z := (chF nv wl m other one (clr left v), t1)) r1 (st_be env (st_bnd (st_f n5 (st_f (by rw [lt]; exact c2) (st_bnd p2)))))))))))), p3⟩
    · have c1' : bit left v = false := by cases h : bit left v with | false => rfl | true => exact absurd h c1
      rw [c1'] at hh
      rw [if_neg c1]
      obtain ⟨t', b', w1, w2, w3⟩ := ihk g b is most t1 (by omega) (by omega) htk hst
      refine ⟨t', b', w1, ?_, w3⟩
      rw [← ev2] at w2
      exact st_bind (verbs_ev ct1) (st_f nle (st_bind hh (st_bnd (st_t i32_0 (st_bnd w2)))))
theorem pk_some (hl : 0 ≤ of ∧ of < 128) (h0 : ¬ of = 0) (hb : ∀ o : Int, 0 ≤ o → o < 7 → bit of o = true → o < nv) (nf : Int → Int) : pkF nv of nf nv (-1) ≠ -1 := by
  obtain ⟨v, v0, v1, v2⟩ := bit_ne0 hl h0
  exact pkF_y ⟨v0, hb v v0 v1 v2⟩ v2 nv (-1) (Nat.le_refl _) (by have := hb v v0 v1 v2; omega) (Or.inl rfl)
theorem x_ch1 (hn : n ≤ 6) (hnv : nv ≤ 7) : ∀ (m M : Nat) (one other left : Int) (τ : XS), m < M → m ≤ 5 → cty τ n nv → xgR τ n nv cn wl → (0 ≤ one ∧ one < n) → (0 ≤ other ∧ other < n) → (0 ≤ left ∧ left < 128) → (∀ o : Int, 0 ≤ o → o < 7 → bit left o = true → o < nv) → x6_chooses M one other left (6 - (m : Int)) τ = some (chF nv wl m one other left, τ) := by
  intro m
  induction m with
  | zero =>
    intro M one other left τ hM hm hct hg h1 h2 hl hb
    obtain ⟨M, rfl⟩ : ∃ g, M = g + 1 := ⟨M - 1, by omega⟩
    rw [x6_chooses, x6_chooses_B, chF]
    by_cases h0 : i32 left = 0
    · exact st_t h0 rfl
    · exact st_f h0 (st_t rfl rfl)
  | succ m ih =>
    intro M one other left τ hM hm hct hg h1 h2 hl hb
    obtain ⟨M, rfl⟩ : ∃ g, M = g + 1 := ⟨M - 1, by omega⟩
    have hd6 : (6 : Int) - ((m + 1 : Nat) : Int) ≠ 0 := by omega
    by_cases h0 : left = 0
    · rw [x6_chooses, x6_chooses_B, h0, chF_0]
      exact st_t i32_0 rfl
    · obtain ⟨t', b', q1, q2, q3⟩ := cho_in hn hnv hct hg (x6_chooses M) (m := m) (by omega) (d := 6 - ((m + 1 : Nat) : Int)) (by omega) h1 h2 hl hb (fun t1 v on1 v0 v1 vb => by
        rw [show (6 : Int) - ((m + 1 : Nat) : Int) + 1 = 6 - (m : Int) by omega]
        exact ih M other one (clr left v) t1 (by omega) (by omega) (hct.kept (on1.mono (by simp)) stand_giv) (hg.kept hn (on1.mono (by simp))) h2 h1 (clr_bd hl ⟨v0, by omega⟩) (fun o o0 o1 ob => by
          rw [clr_bt hl ⟨v0, by omega⟩ ⟨o0, o1⟩] at ob
          simp at ob
          exact hb o o0 o1 ob.1)) nv FU (-1) 0 0 τ (Nat.le_refl _) (by have := FU_ge; omega) (Or.inl ⟨hd6, rfl⟩) (Or.inl ⟨rfl, rfl, rfl⟩)
      have nb : b' ≠ -1 := by rw [q1]; exact pk_some hl h0 hb _
      have et : t' = τ := by
        rcases q3 with ⟨-, e⟩ | ⟨e, -⟩
        · exact e
        · exact absurd e hd6
      rw [if_neg nb, et, Int.sub_self] at q2
      rw [x6_chooses, x6_chooses_B, chF_s h0, ← q1]
      refine st_f (by rw [i32_id (by omega) (by omega)]; exact h0) (st_f ?_ (st_bnd (st_bnd (st_bnd q2))))
      rw [i32_id (by omega) (by omega), show i32 6 = 6 by decide]; omega
/-- the system's choice -/
theorem x_ch0 (hn : n ≤ 6) (hnv : nv ≤ 7) (hct : cty τ n nv) (hg : xgR τ n nv cn wl) {one other left : Int} (h35 : τ 35 0 = -1) (h1 : 0 ≤ one ∧ one < n) (h2 : 0 ≤ other ∧ other < n) (hl : 0 ≤ left ∧ left < 128) (hb : ∀ o : Int, 0 ≤ o → o < 7 → bit left o = true → o < nv) : ∃ τ', x6_chooses 9 one other left 0 τ = some (chF nv wl 6 one other left, τ') ∧ onx [35] τ τ' ∧ τ' 35 0 = pkF nv left (nfF nv wl 5 one other left) nv (-1) := by
  by_cases h0 : left = 0
  · refine ⟨τ, ?_, onx.rf, ?_⟩
    · rw [x6_chooses, x6_chooses_B, h0, chF_0]
      exact st_t i32_0 rfl
    · rw [h35]
      rcases pkF_b (nv := nv) (left := left) (nf := nfF nv wl 5 one other left) nv (-1) (Nat.le_refl _) (Or.inl rfl) with q | ⟨q1, q2, q3⟩
      · exact q.symm
      · generalize pkF nv left (nfF nv wl 5 one other left) nv (-1) = w at *
        rw [h0] at q3
        have z : ∀ o : Fin 7, bit 0 o.val = false := by decide
        have z1 := z ⟨w.toNat, by omega⟩
        dsimp only at z1
        rw [show ((w.toNat : Nat) : Int) = w by omega] at z1
        rw [z1] at q3
        cases q3
  · obtain ⟨t', b', q1, q2, q3⟩ := cho_in hn hnv hct hg (x6_chooses 8) (m := 5) (by omega) (d := 0) (by omega) h1 h2 hl hb (fun t1 v on1 v0 v1 vb => by
      have := x_ch1 (cn := cn) (wl := wl) hn hnv 5 8 other one (clr left v) t1 (by omega) (by omega) (hct.kept (on1.mono (by simp)) stand_giv) (hg.kept hn (on1.mono (by simp))) h2 h1 (clr_bd hl ⟨v0, by omega⟩) (fun o o0 o1 ob => by
        rw [clr_bt hl ⟨v0, by omega⟩ ⟨o0, o1⟩] at ob
        simp at ob
        exact hb o o0 o1 ob.1)
      exact this) nv FU (-1) 0 0 τ (Nat.le_refl _) (by have := FU_ge; omega) (Or.inr ⟨rfl, onx.rf, h35⟩) (Or.inl ⟨rfl, rfl, rfl⟩)
    have nb : b' ≠ -1 := by rw [q1]; exact pk_some hl h0 hb _
    rw [if_neg nb, Int.sub_self] at q2
    refine ⟨t', ?_, q3.on, ?_⟩
    · rw [x6_chooses, x6_chooses_B, chF_s h0, ← q1]
      exact st_f (by rw [i32_id (by omega) (by omega)]; exact h0) (st_f (by decide) (st_bnd (st_bnd (st_bnd q2))))
    · rcases q3 with ⟨e, -⟩ | ⟨-, -, e⟩
      · exact absurd rfl e
      · rw [e, q1]
end
