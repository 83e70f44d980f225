set_option maxRecDepth 100000
/-! LAYER 2: codes run within bounds -/
def bd1 (x : Int) : Prop := -1000000 ≤ x ∧ x ≤ 1000000
/-- codes that may stand in a law, in a question -/
def okc (fl : Bool) (c : Int) : Prop := (0 ≤ c ∧ c < 40) ∨ (40 ≤ c ∧ c < 60 ∧ alw fl (c - 40)) ∨ (fl = true ∧ 60 ≤ c ∧ c < 62) ∨ (1000 ≤ c ∧ c ≤ 20000)
/-- codes run, all that lies on the pile stays within bounds -/
def rnB (fl : Bool) (pt : Int → Int) (of : Int → Int → Int) : List Int → List Int → List Int → Prop
  | [], st, st' => st' = st
  | c :: cs, st, st' => okc fl c ∧ ∃ st1, stq pt of c st = some st1 ∧ (∀ x ∈ st1, bd1 x) ∧ rnB fl pt of cs st1 st'
section
variable {fl : Bool} {pt : Int → Int} {of : Int → Int → Int}
theorem rnB_app : ∀ (cs ds st st1 st2 : List Int), rnB fl pt of cs st st1 → rnB fl pt of ds st1 st2 → rnB fl pt of (cs ++ ds) st st2
  | [], ds, st, st1, st2, h1, h2 => by
    rw [rnB] at h1
    rw [h1] at h2
    exact h2
  | c :: cs, ds, st, st1, st2, h1, h2 => by
    rw [rnB] at h1
    obtain ⟨h0, sx, a1, a2, a3⟩ := h1
    rw [List.cons_append, rnB]
    exact ⟨h0, sx, a1, a2, rnB_app cs ds sx st1 st2 a3 h2⟩
theorem rnB_exq : ∀ (cs st st' : List Int), rnB fl pt of cs st st' → exq pt of cs st = some st'
  | [], st, st', h => by rw [rnB] at h; rw [h]; rfl
  | c :: cs, st, st', h => by
    rw [rnB] at h
    obtain ⟨h0, sx, a1, a2, a3⟩ := h
    rw [exq, a1]
    exact rnB_exq cs sx st' a3
def isB (fl : Bool) (pt : Int → Int) (of : Int → Int → Int) (cs : List Int) (v : Int) : Prop := ∀ st, (∀ x ∈ st, bd1 x) → rnB fl pt of cs st (v :: st)
theorem bd_cons {v : Int} {st : List Int} (h : bd1 v) (hs : ∀ x ∈ st, bd1 x) : ∀ x ∈ v :: st, bd1 x := fun x hx => by
  rcases List.mem_cons.mp hx with rfl | hx
  · exact h
  · exact hs x hx
theorem isB_one {c v : Int} (h0 : okc fl c) (h : ∀ st, stq pt of c st = some (v :: st)) (hv : bd1 v) : isB fl pt of [c] v := fun st hst => by
  rw [rnB]
  exact ⟨h0, _, h st, bd_cons hv hst, rfl⟩
theorem isB_snoc {cs : List Int} {c v w : Int} (hB : isB fl pt of cs v) (h0 : okc fl c) (h : ∀ st, stq pt of c (v :: st) = some (w :: st)) (hw : bd1 w) : isB fl pt of (cs ++ [c]) w := fun st hst => by
  refine rnB_app _ _ _ _ _ (hB st hst) ?_
  rw [rnB]
  exact ⟨h0, _, h st, bd_cons hw hst, rfl⟩
theorem isB_num {k : Int} (h : 0 ≤ k ∧ k ≤ 9999) : isB fl pt of [1000 + k] k :=
  isB_one (Or.inr (Or.inr (Or.inr (by omega)))) (fun st => by unfold stq; rw [if_pos (by omega), show 1000 + k - 1000 = k by omega]) (by unfold bd1; omega)
theorem isB_part {k : Int} (h : alw fl k) (hb : bd1 (pt k)) : isB fl pt of [40 + k] (pt k) := by
  have hk := alw_b h
  exact isB_one (Or.inr (Or.inl ⟨by omega, by omega, by rw [show 40 + k - 40 = k by omega]; exact h⟩)) (fun st => by unfold stq; rw [if_neg (by omega), if_neg (by omega), if_pos (by omega), show 40 + k - 40 = k by omega]) hb
theorem isB_all : isB fl pt of [13] 1 := isB_one (Or.inl (by omega)) (fun st => by unfold stq; rw [if_neg (by omega), if_neg (by omega), if_neg (by omega), if_pos rfl]) (by unfold bd1; omega)
theorem isB_of {cs : List Int} {v k : Int} (hf : fl = true) (h : isB fl pt of cs v) (h0 : 0 ≤ k) (h2 : k < 2) : isB fl pt of (cs ++ [60 + k]) (clp (of k v)) :=
  isB_snoc h (Or.inr (Or.inr (Or.inl ⟨hf, by omega, by omega⟩))) (fun st => by unfold stq; rw [if_neg (by omega), if_pos (by omega), show 60 + k - 60 = k by omega]) (clp_b _)
theorem isB_not {cs : List Int} {v : Int} (h : isB fl pt of cs v) (hv : v = 0 ∨ v = 1) : isB fl pt of (cs ++ [12]) (1 - v) :=
  isB_snoc h (Or.inl (by omega)) (fun st => by unfold stq; rw [if_neg (by omega), if_neg (by omega), if_neg (by omega), if_neg (by omega), if_pos rfl]) (by unfold bd1; omega)
theorem isB_jn {cs ds : List Int} {a b c : Int} (h : isB fl pt of cs a) (h2 : isB fl pt of ds b) (ha : bd1 a) (hc : 1 ≤ c ∧ c ≤ 11) (hj : bd1 (jn c a b)) : isB fl pt of (cs ++ ds ++ [c]) (jn c a b) := fun st hst => by
  refine rnB_app _ _ _ _ _ (rnB_app _ _ _ _ _ (h st hst) (h2 _ (bd_cons ha hst))) ?_
  rw [rnB]
  refine ⟨Or.inl (by omega), jn c a b :: st, ?_, bd_cons hj hst, rfl⟩
  unfold stq
  rw [if_neg (by omega), if_neg (by omega), if_neg (by omega), if_neg (by omega), if_neg (by omega)]
theorem isB_joins {P : Int → Prop} (hP : ∀ x, P x → bd1 x) : ∀ (qs : List (List Int × Int)) (v : Int) (cs : List Int), isB fl pt of cs v → P v → (∀ q ∈ qs, (1 ≤ q.2 ∧ q.2 ≤ 11) ∧ (∀ a b, P a → P b → P (jn q.2 a b)) ∧ ∃ w, P w ∧ isB fl pt of q.1 w) → ∃ v', P v' ∧ isB fl pt of (cs ++ qs.flatMap fun q => q.1 ++ [q.2]) v'
  | [], v, cs, h, hv, _ => ⟨v, hv, by simpa using h⟩
  | q :: qs, v, cs, h, hv, hq => by
    obtain ⟨h1, h2, w, h3, h4⟩ := hq q List.mem_cons_self
    obtain ⟨v', b1, b2⟩ := isB_joins hP qs (jn q.2 v w) (cs ++ q.1 ++ [q.2]) (isB_jn h h4 (hP v hv) h1 (hP _ (h2 v w hv h3))) (h2 v w hv h3) (fun q h => hq q (List.mem_cons_of_mem _ h))
    refine ⟨v', b1, ?_⟩
    rw [List.flatMap_cons]
    rw [show cs ++ (q.1 ++ [q.2] ++ List.flatMap (fun q => q.1 ++ [q.2]) qs) = cs ++ q.1 ++ [q.2] ++ List.flatMap (fun q => q.1 ++ [q.2]) qs by simp]
    exact b2
theorem mem_zip_l {α β : Type} {l : List α} {r : List β} {q : α × β} (h : q ∈ l.zip r) : q.1 ∈ l ∧ q.2 ∈ r := List.of_mem_zip h
theorem XV_B {τ : XS} {S : Int → Prop} (hpt : ∀ k, alw fl k → bd1 (pt k)) : ∀ (n : Nat) (c : Int) (cs : List Int), XV τ S fl n c cs → ∃ v, bd1 v ∧ isB fl pt of cs v := by
  intro n
  induction n with
  | zero => intro c cs h; cases h
  | succ n ih =>
    intro c cs hX
    obtain ⟨hc, hX⟩ := hX
    rcases hX with ⟨t, h1, h2⟩ | ⟨t, h1, h2⟩ | ⟨t, cs1, cs2, h1, h2, h3, h4⟩ | ⟨t, hf, hz, h3, cs1, h1, h2⟩ | ⟨t, es, sg, css, l1, l2, l3, l4, l5, l6, l7, l8⟩
    · rw [h2]; exact ⟨_, by unfold bd1; omega, isB_num h1⟩
    · rw [h2]; exact ⟨_, hpt _ h1, isB_part h1 (hpt _ h1)⟩
    · obtain ⟨a, a1, a2⟩ := ih _ _ h1
      obtain ⟨b, b1, b2⟩ := ih _ _ h2
      have hj : bd1 (jn (5 + τ c 0) a b) := jn_b (by omega) a1 b1
      rw [h4]
      exact ⟨_, hj, isB_jn a2 b2 a1 (by omega) hj⟩
    · obtain ⟨a, a1, a2⟩ := ih _ _ h1
      rw [h2]
      exact ⟨_, clp_b _, isB_of hf a2 (by omega) (by omega)⟩
    · obtain ⟨c0, css', rfl⟩ : ∃ c0 css', css = c0 :: css' := by
        cases css with
        | nil => simp at l5; omega
        | cons a b => exact ⟨a, b, rfl⟩
      have hall : ∀ ds ∈ c0 :: css', ∃ v, bd1 v ∧ isB fl pt of ds v := fun ds hd => by
        obtain ⟨i, hi, e⟩ := List.getElem_of_mem hd
        have hi2 : i < es.length := by omega
        exact ih _ _ (l7 i es[i] ds (List.getElem?_eq_getElem hi2) (by rw [List.getElem?_eq_getElem hi, e]))
      obtain ⟨v0, a1, a2⟩ := hall c0 List.mem_cons_self
      rw [l8, joins]
      refine isB_joins (P := bd1) (fun _ h => h) _ v0 c0 a2 a1 (fun q hq => ?_)
      obtain ⟨q1, q2⟩ := mem_zip_l hq
      have hc4 : 1 ≤ q.2 ∧ q.2 ≤ 4 := by
        have := List.mem_of_mem_drop q2
        obtain ⟨x, -, e⟩ := List.mem_map.mp this
        rw [← e]
        unfold cd
        split
        · omega
        · split
          · omega
          · split <;> omega
      refine ⟨by omega, fun a b ha hb => jn_b (by omega) ha hb, ?_⟩
      exact hall q.1 (List.mem_cons_of_mem _ q1)
def b01 (x : Int) : Prop := x = 0 ∨ x = 1
theorem b01_bd (x : Int) (h : b01 x) : bd1 x := by unfold b01 at h; unfold bd1; omega
theorem b01_b2i (b : Bool) : b01 (b2i b) := by cases b <;> simp [b2i, b01]
theorem b01_jn {c a b : Int} (hc : c = 10 ∨ c = 11) (ha : b01 a) (hb : b01 b) : b01 (jn c a b) := by
  rcases hc with rfl | rfl
  · rw [jn_10]
    rcases ha with rfl | rfl <;> rcases hb with rfl | rfl <;> simp [b01]
  · rw [jn_11]; exact b01_b2i _
theorem XT_B {τ : XS} {S : Int → Prop} (hpt : ∀ k, alw fl k → bd1 (pt k)) : ∀ (n : Nat) (c : Int) (cs : List Int), XT τ S fl n c cs → ∃ v, b01 v ∧ isB fl pt of cs v := by
  intro n
  induction n with
  | zero => intro c cs h; cases h
  | succ n ih =>
    intro c cs hX
    obtain ⟨hc, hX⟩ := hX
    rcases hX with ⟨t, e⟩ | ⟨t, cs1, cs2, h1, h2, h3, h4⟩ | ⟨t, cs1, h1, h2⟩ | ⟨t, ta, es, css, l1, l3, l5, l7, l8⟩
    · rw [e]; exact ⟨1, Or.inr rfl, isB_all⟩
    · obtain ⟨a, a1, a2⟩ := XV_B hpt _ _ _ h1
      obtain ⟨b, b1, b2⟩ := XV_B hpt _ _ _ h2
      have hj : b01 (jn (sgc (τ c 2)) a b) := by
        rcases h3 with h3 | h3 | h3
        · rw [h3, show sgc 60 = 7 from rfl, jn_7]; exact b01_b2i _
        · rw [h3, show sgc 62 = 8 from rfl, jn_8]; exact b01_b2i _
        · rw [h3, show sgc 61 = 9 from rfl, jn_9]; exact b01_b2i _
      rw [h4]
      refine ⟨_, hj, isB_jn a2 b2 a1 ?_ (b01_bd _ hj)⟩
      unfold sgc
      rcases h3 with h3 | h3 | h3 <;> rw [h3] <;> decide
    · obtain ⟨a, a1, a2⟩ := ih _ _ h1
      rw [h2]
      exact ⟨1 - a, by unfold b01 at *; omega, isB_not a2 a1⟩
    · obtain ⟨c0, css', rfl⟩ : ∃ c0 css', css = c0 :: css' := by
        cases css with
        | nil => simp at l5; omega
        | cons a b => exact ⟨a, b, rfl⟩
      have hall : ∀ ds ∈ c0 :: css', ∃ v, b01 v ∧ isB fl pt of ds v := fun ds hd => by
        obtain ⟨i, hi, e⟩ := List.getElem_of_mem hd
        have hi2 : i < es.length := by omega
        exact ih _ _ (l7 i es[i] ds (List.getElem?_eq_getElem hi2) (by rw [List.getElem?_eq_getElem hi, e]))
      obtain ⟨v0, a1, a2⟩ := hall c0 List.mem_cons_self
      rw [l8, joins]
      refine isB_joins (P := b01) b01_bd _ v0 c0 a2 a1 (fun q hq => ?_)
      obtain ⟨q1, q2⟩ := mem_zip_l hq
      have hc4 : q.2 = 11 - τ c 1 := (List.mem_replicate.mp q2).2
      refine ⟨by omega, fun a b ha hb => b01_jn (by omega) ha hb, ?_⟩
      exact hall q.1 (List.mem_cons_of_mem _ q1)
theorem isB_V {cs : List Int} {v w : Int} (h : isB fl pt of cs v) (h2 : isV pt of cs w) : v = w := by
  have a := rnB_exq _ _ _ (h [] (fun x hx => by cases hx))
  rw [h2 []] at a
  cases a
  rfl
end
