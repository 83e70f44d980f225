/-! new cells -/
set_option maxRecDepth 100000
/-- a new cell of tag t, length len, sl slots, contents d -/
def nwx (τ : XS) (t len sl : Int) (d : Int → Int) : XS := fun c i => if c = τ (-1) 0 then (if i = -1 then t else if i = -2 then len else d i) else if c = -1 ∧ i = 0 then τ (-1) 0 + 1 else if c = -1 ∧ i = 1 then τ (-1) 1 + sl else τ c i
/-- what the fields of a new object hold -/
def dfl (t : Nat) (i : Int) : Int := if (fk t i.toNat).1 = 3 then -1 else 0
section Xnew
variable {l : Launch} {nL x0 : Nat} {D : XD} {b : Bool} {tv dp c0 s0 : Nat} {res : RX} {σ : XS} {lv : List (Nat × Value)} {st : List Value} {cc : ByteArray} {own mn : String} {xt : List ExceptionTableEntry} {ret : Option FieldType}
theorem stc_hi {c : Int} (h : 1438 ≤ c) : (stc c).1 = 0 := by
  rcases Nat.eq_zero_or_pos (stc c).1 with q | q
  · exact q
  · have := (stc_fix (ce := c) (by omega)).2; omega
theorem nwx_C {t len sl : Int} {d : Int → Int} (h0 : 0 ≤ σ (-1) 0) : nwx σ t len sl d (-1) 0 = σ (-1) 0 + 1 := by unfold nwx; rw [if_neg (by omega), if_pos ⟨rfl, rfl⟩]
theorem nwx_S {t len sl : Int} {d : Int → Int} (h0 : 0 ≤ σ (-1) 0) : nwx σ t len sl d (-1) 1 = σ (-1) 1 + sl := by unfold nwx; rw [if_neg (by omega), if_neg (by omega), if_pos ⟨rfl, rfl⟩]
theorem nwx_o {t len sl : Int} {d : Int → Int} {c i : Int} (h : c ≠ σ (-1) 0) (h2 : c ≠ -1 ∨ (i ≠ 0 ∧ i ≠ 1)) : nwx σ t len sl d c i = σ c i := by unfold nwx; rw [if_neg h, if_neg (by omega), if_neg (by omega)]
theorem XRp.new {H H' : Heap} (hR : XRp b x0 D σ H) {t : Nat} {len sl : Int} {d : Int → Int} (ht : 0 < t) (hsl : 0 ≤ sl) (hz : H'.size = H.size + 1) (ho : ∀ q : Nat, q < H.size → H'[q]? = H[q]?)
    (hn : COK b x0 D t len (σ (-1) 0) (nwx σ t len sl d (σ (-1) 0)) H') : XRp b x0 D (nwx σ t len sl d) H' := by
  obtain ⟨h0, h1, h2, h3, h4, h5⟩ := hR
  have eC := nwx_C (t := t) (len := len) (sl := sl) (d := d) h1
  have eS := nwx_S (t := t) (len := len) (sl := sl) (d := d) h1
  refine ⟨h0, by rw [eC]; omega, by rw [eS]; omega, ⟨fun hb => by rw [eC]; have := h3.1 hb; omega, fun k => by rw [nwx_o (by omega) (Or.inr ⟨by omega, by omega⟩)]; exact h3.2 k⟩, ?_, fun c hc => ?_⟩
  · rw [hz, h4]; unfold nC; rw [eC]; omega
  · rw [eC]
    by_cases hcN : c = σ (-1) 0
    · subst hcN
      have e1 : nwx σ t len sl d (σ (-1) 0) (-1) = t := by unfold nwx; rw [if_pos rfl, if_pos rfl]
      have e2 : nwx σ t len sl d (σ (-1) 0) (-2) = len := by unfold nwx; rw [if_pos rfl, if_neg (by decide), if_pos rfl]
      have ns : ¬ (b = true ∧ (stc (σ (-1) 0)).1 ≠ 0) ∧ ¬ (b = true ∧ 1438 ≤ σ (-1) 0 ∧ σ (-1) 0 < 1514) := by
        constructor
        · rintro ⟨hb, hs⟩; exact hs (stc_hi (by have := h3.1 hb; omega))
        · rintro ⟨hb, hs⟩; have := h3.1 hb; omega
      have et : tg b (nwx σ t len sl d) (σ (-1) 0) = t := by unfold tg; rw [if_neg ns.1, if_neg ns.2, e1]; rfl
      have el : ln b (nwx σ t len sl d) (σ (-1) 0) = len := by unfold ln; rw [if_neg ns.1, e2]
      rw [et, el]
      exact ⟨by omega, by omega, hn⟩
    · have et : tg b (nwx σ t len sl d) c = tg b σ c := by unfold tg; rw [nwx_o hcN (Or.inr ⟨by decide, by decide⟩)]
      have el : ln b (nwx σ t len sl d) c = ln b σ c := by unfold ln; rw [nwx_o hcN (Or.inr ⟨by decide, by decide⟩)]
      rw [et] at hc ⊢
      rw [el]
      obtain ⟨a1, a2, a3⟩ := h5 c hc
      have ef : nwx σ t len sl d c = σ c := by funext i; exact nwx_o hcN (Or.inl a2)
      rw [ef]
      refine ⟨by omega, a2, a3.kept (ho _ ?_)⟩
      rw [h4]
      unfold ad nC
      split <;> omega
theorem nwx_le {τ' : XS} {t len sl : Int} {d : Int → Int} (h1 : 0 ≤ σ (-1) 0) (h2 : 0 ≤ σ (-1) 1) (hsl : 0 ≤ sl) (hs' : τ' = nwx σ t len sl d) : nC τ' = nC σ + 1 ∧ nS τ' = nS σ + sl.toNat := by
  subst hs'
  unfold nC nS
  rw [nwx_C h1, nwx_S h1]
  omega
theorem gx_new (pc : Nat) {t idx : Nat} {q : vw_C} {τ' : XS} (hp : 0 ≤ σ (-1) 0 ∧ 0 ≤ σ (-1) 1) (hq : ClsW t q) (ty : Nat → FieldType) (hty : ∀ k, k < q.2.2 → parseFieldDescriptor (q.2.1 k).2.2.1 = some (ty k)) (hdf : ∀ k, k < q.2.2 → fvl b x0 t k (σ (-1) 0) (dfl t) = defaultValue (ty k)) (hcl : Cond.classLink own idx q.1 ∈ lw_all) (hins : Cond.instantiable q.1 q.2.2 ∈ lw_all) (hini : Cond.initialized q.1 ∈ lw_all) (hs' : τ' = nwx σ t 0 q.2.2 (dfl t)) (hd : decode cc pc = .ok (.new idx, 3))
    (kk : GX l cc own nL ret mn xt x0 D b tv dp c0 s0 res τ' (pc + 3) lv (.ref (ad x0 (σ (-1) 0)) :: st)) : GX l cc own nL ret mn xt x0 D b tv dp c0 s0 res σ pc lv st := by
  have hle := nwx_le hp.1 hp.2 (by omega) hs'
  refine ⟨⟨by have := kk.1.1; omega, by have := kk.1.2; omega⟩, fun p e s m args below meth c hC H locs ls hR hS hl z1 z2 => ?_⟩
  have hCC := hC
  obtain ⟨hx, hb, -, hml, hown, hts, -, hKs, -⟩ := hC
  have hKn := hKs.1 _ _ hq.2.2.1
  have hsz : H.size = ad x0 (σ (-1) 0) := by rw [hR.2.2.2.2.1]; unfold ad nC; rw [if_pos hp.1]
  have g1 := kk.1.1
  have g2 := kk.1.2
  refine W.newcK hx hb hown (hts _ hcl) (hts _ hins) (hts _ hini) rfl hd (by show _ ≤ nC res.2.2 - c0; omega) (by show _ ≤ nS res.2.2 - s0; omega) hKn.2.1 rfl fun H1 kC hkC e1 z3 o1 => ?_
  have e9 : nC σ - c0 + 1 = nC τ' - c0 := by omega
  have e8 : nS σ - s0 + q.2.2 = nS τ' - s0 := by omega
  rw [e9, e8]
  have hS' : va_S (XA x0) s.heap H1 locs := ⟨Nat.le_trans hS.1 (by omega), fun x h1 h2 => (o1 x (Nat.lt_of_lt_of_le h1 hS.1)).trans (hS.2.1 x h1 h2), hS.2.2⟩
  have key := kk.2 p e s m args below meth c hCC H1 locs ls (by
    subst hs'
    refine hR.new hq.1 (by omega) z3 o1 ?_
    unfold COK
    rw [if_pos hq.2.1]
    refine ⟨q, hq.2.2.1, t_OB.to (V := fun k => defaultValue (ty k)) (by rw [← hsz]; exact u_born ty hts hq.2.2.2.1 hKn hkC e1 hty) (fun k hk => ?_)⟩
    rw [← hdf k hk]
    have ef : ∀ k : Nat, nwx σ t 0 q.2.2 (dfl t) (σ (-1) 0) (k : Int) = dfl t k := fun k => by unfold nwx; rw [if_pos rfl, if_neg (by omega), if_neg (by omega)]
    show fvl b x0 t k _ _ = fvl b x0 t k _ _
    unfold fvl
    rw [ef k]) hS' hl (by omega) (by omega)
  rw [← hsz] at key
  exact key
theorem arr_def {cA : ClassId} {ty : FieldType} (n : Nat) (V : Nat → Value) (h : ∀ j, V j = defaultValue ty) : arrV cA n (fun _ => defaultValue ty) = arrV cA n V := by congr 1; funext j; exact (h j).symm
/-- a new array of ints, bytes, booleans, longs, chars -/
theorem gx_newarr (pc : Nat) {t : Nat} {atype : ArrayType} {n : Int} {τ' : XS} (hp : 0 ≤ σ (-1) 0 ∧ 0 ≤ σ (-1) 1) (hty : (t, newarray.typeOf atype) ∈ arrK) (ht : 100 ≤ t) (hn : 0 ≤ i32 n ∧ i32 n < 1000000) (hw : Cond.arrayClass (newarray.typeOf atype) ∈ lw_all) (hbt : componentBytes (newarray.typeOf atype) ≤ 8) (hfc : ∀ U cA, va_RA U cA (newarray.typeOf atype) → U.vm.findClass ("[" ++ (newarray.typeOf atype).toString) = some cA) (hdf : ∀ (c j : Int), evl b x0 t c j 0 = defaultValue (newarray.typeOf atype)) (hs' : τ' = nwx σ t (i32 n) (i32 n) (fun _ => 0)) (hd : decode cc pc = .ok (.newarray atype, 2))
    (kk : GX l cc own nL ret mn xt x0 D b tv dp c0 s0 res τ' (pc + 2) lv (.ref (ad x0 (σ (-1) 0)) :: st)) : GX l cc own nL ret mn xt x0 D b tv dp c0 s0 res σ pc lv (J n :: st) := by
  have hle := nwx_le hp.1 hp.2 hn.1 hs'
  refine ⟨⟨by have := kk.1.1; omega, by have := kk.1.2; omega⟩, fun p e s m args below meth c hC H locs ls hR hS hl z1 z2 => ?_⟩
  have hKs := hC.2.2.2.2.2.2.2.1
  have hsz : H.size = ad x0 (σ (-1) 0) := by rw [hR.2.2.2.2.1]; unfold ad nC; rw [if_pos hp.1]
  have g1 := kk.1.1
  have g2 := kk.1.2
  have hix : (((Int32.ofInt n).toNatClampNeg : Nat) : Int) = i32 n := ok_ix (n := 1000000) ⟨hn.1, hn.2⟩
  have hN : (Int32.ofInt n).toNatClampNeg = (i32 n).toNat := by omega
  have h0 : ¬ Int32.ofInt n < 0 := fun h => by have := (lt320 n).mp h; omega
  refine va_newaK hC.1 hC.2.1 (hC.2.2.2.2.2.1 _ hw) rfl hd rfl h0 hN (by have : (i32 n).toNat * componentBytes (newarray.typeOf atype) ≤ 1000000 * 8 := Nat.mul_le_mul (by omega) hbt; omega) (by show _ ≤ nC res.2.2 - c0; omega) (by show _ ≤ nS res.2.2 - s0; omega) rfl fun H1 cA e1 z3 o1 _ hf => ?_
  have hcA : cA = D.2.2.1 t := Option.some.inj (hf.symm.trans (hfc _ _ (hKs.2.1 _ hty).2))
  subst hcA
  have e9 : nC σ - c0 + 1 = nC τ' - c0 := by omega
  have e8 : nS σ - s0 + (i32 n).toNat = nS τ' - s0 := by omega
  rw [e9, e8]
  have hS' : va_S (XA x0) s.heap H1 locs := ⟨Nat.le_trans hS.1 (by omega), fun x h1 h2 => (o1 x (Nat.lt_of_lt_of_le h1 hS.1)).trans (hS.2.1 x h1 h2), hS.2.2⟩
  have key := kk.2 p e s m args below meth c hC H1 locs ls (by
    subst hs'
    refine hR.new (by omega) hn.1 z3 o1 ?_
    unfold COK
    rw [if_neg (by omega)]
    refine ⟨hn.1, ?_⟩
    rw [← hsz, e1]
    congr 1
    refine arr_def _ _ fun j => ?_
    have ef : nwx σ t (i32 n) (i32 n) (fun _ => 0) (σ (-1) 0) (j : Int) = 0 := by unfold nwx; rw [if_pos rfl, if_neg (by omega), if_neg (by omega)]
    rw [ef]
    exact hdf _ _) hS' hl (by omega) (by omega)
  rw [← hsz] at key
  exact key
end Xnew
theorem df_1 (x0 : Nat) (c : Int) : ∀ k, k < 24 → fvl false x0 1 k c (dfl 1) = defaultValue (tyX0 k) := fun k h => by
  rcases k with _ | _ | _ | _ | _ | _ | _ | _ | _ | _ | _ | _ | _ | _ | _ | _ | _ | _ | _ | _ | _ | _ | _ | _ | k <;> first | rfl | (exfalso; omega)
theorem df_2 (b : Bool) (x0 : Nat) (c : Int) : ∀ k, k < 9 → fvl b x0 2 k c (dfl 2) = defaultValue (tyX1 k) := fun k h => by
  rcases k with _ | _ | _ | _ | _ | _ | _ | _ | _ | k <;> first | rfl | (exfalso; omega)
theorem df_3 (x0 : Nat) (c : Int) : ∀ k, k < 8 → fvl false x0 3 k c (dfl 3) = defaultValue (tyX2 k) := fun k h => by
  rcases k with _ | _ | _ | _ | _ | _ | _ | _ | k <;> first | rfl | (exfalso; omega)
theorem df_4 (b : Bool) (x0 : Nat) (c : Int) : ∀ k, k < 8 → fvl b x0 4 k c (dfl 4) = defaultValue (tyX3 k) := fun k h => by
  rcases k with _ | _ | _ | _ | _ | _ | _ | _ | k <;> first | rfl | (exfalso; omega)
theorem df_5 (x0 : Nat) (c : Int) : ∀ k, k < 1 → fvl false x0 5 k c (dfl 5) = defaultValue (tyX4 k) := fun k h => by
  rcases k with _ | k <;> first | rfl | (exfalso; omega)
theorem df_6 (x0 : Nat) (c : Int) : ∀ k, k < 6 → fvl false x0 6 k c (dfl 6) = defaultValue (tyX5 k) := fun k h => by
  rcases k with _ | _ | _ | _ | _ | _ | k <;> first | rfl | (exfalso; omega)
theorem df_7 (x0 : Nat) (c : Int) : ∀ k, k < 9 → fvl false x0 7 k c (dfl 7) = defaultValue (tyX6 k) := fun k h => by
  rcases k with _ | _ | _ | _ | _ | _ | _ | _ | _ | k <;> first | rfl | (exfalso; omega)
theorem df_8 (x0 : Nat) (c : Int) : ∀ k, k < 10 → fvl false x0 8 k c (dfl 8) = defaultValue (tyX7 k) := fun k h => by
  rcases k with _ | _ | _ | _ | _ | _ | _ | _ | _ | _ | k <;> first | rfl | (exfalso; omega)
theorem df_9 (b : Bool) (x0 : Nat) (c : Int) : ∀ k, k < 4 → fvl b x0 9 k c (dfl 9) = defaultValue (tyX10 k) := fun k h => by
  rcases k with _ | _ | _ | _ | k <;> first | rfl | (exfalso; omega)
theorem df_10 (b : Bool) (x0 : Nat) (c : Int) : ∀ k, k < 3 → fvl b x0 10 k c (dfl 10) = defaultValue (tyX11 k) := fun k h => by
  rcases k with _ | _ | _ | k <;> first | rfl | (exfalso; omega)
theorem df_11 (b : Bool) (x0 : Nat) (c : Int) : ∀ k, k < 2 → fvl b x0 11 k c (dfl 11) = defaultValue (tyX13 k) := fun k h => by
  rcases k with _ | _ | k <;> first | rfl | (exfalso; omega)
theorem df_12 (b : Bool) (x0 : Nat) (c : Int) : ∀ k, k < 1 → fvl b x0 12 k c (dfl 12) = defaultValue (tyX14 k) := fun k h => by
  rcases k with _ | k <;> first | rfl | (exfalso; omega)
theorem df_13 (b : Bool) (x0 : Nat) (c : Int) : ∀ k, k < 0 → fvl b x0 13 k c (dfl 13) = defaultValue .int := fun k h => absurd h (Nat.not_lt_zero k)
theorem df_14 (b : Bool) (x0 : Nat) (c : Int) : ∀ k, k < 2 → fvl b x0 14 k c (dfl 14) = defaultValue (tyX17 k) := fun k h => by
  rcases k with _ | _ | k <;> first | rfl | (exfalso; omega)
theorem df_15 (b : Bool) (x0 : Nat) (c : Int) : ∀ k, k < 3 → fvl b x0 15 k c (dfl 15) = defaultValue (tyX18 k) := fun k h => by
  rcases k with _ | _ | _ | k <;> first | rfl | (exfalso; omega)
theorem df_16 (b : Bool) (x0 : Nat) (c : Int) : ∀ k, k < 1 → fvl b x0 16 k c (dfl 16) = defaultValue (tyX19 k) := fun k h => by
  rcases k with _ | k <;> first | rfl | (exfalso; omega)
theorem df_17 (b : Bool) (x0 : Nat) (c : Int) : ∀ k, k < 1 → fvl b x0 17 k c (dfl 17) = defaultValue (tyX20 k) := fun k h => by
  rcases k with _ | k <;> first | rfl | (exfalso; omega)
theorem df_18 (b : Bool) (x0 : Nat) (c : Int) : ∀ k, k < 3 → fvl b x0 18 k c (dfl 18) = defaultValue (tyX21 k) := fun k h => by
  rcases k with _ | _ | _ | k <;> first | rfl | (exfalso; omega)
theorem df_19 (b : Bool) (x0 : Nat) (c : Int) : ∀ k, k < 3 → fvl b x0 19 k c (dfl 19) = defaultValue (tyX22 k) := fun k h => by
  rcases k with _ | _ | _ | k <;> first | rfl | (exfalso; omega)
theorem df_20 (b : Bool) (x0 : Nat) (c : Int) : ∀ k, k < 5 → fvl b x0 20 k c (dfl 20) = defaultValue (tyX23 k) := fun k h => by
  rcases k with _ | _ | _ | _ | _ | k <;> first | rfl | (exfalso; omega)
theorem df_21 (b : Bool) (x0 : Nat) (c : Int) : ∀ k, k < 3 → fvl b x0 21 k c (dfl 21) = defaultValue (tyJ2 k) := fun k h => by
  rcases k with _ | _ | _ | k <;> first | rfl | (exfalso; omega)
theorem df_22 (b : Bool) (x0 : Nat) (c : Int) : ∀ k, k < 4 → fvl b x0 22 k c (dfl 22) = defaultValue (tyJ6 k) := fun k h => by
  rcases k with _ | _ | _ | _ | k <;> first | rfl | (exfalso; omega)
theorem df_23 (b : Bool) (x0 : Nat) (c : Int) : ∀ k, k < 4 → fvl b x0 23 k c (dfl 23) = defaultValue (tyJ15 k) := fun k h => by
  rcases k with _ | _ | _ | _ | k <;> first | rfl | (exfalso; omega)
theorem df_24 (b : Bool) (x0 : Nat) (c : Int) : ∀ k, k < 108 → fvl b x0 24 k c (dfl 24) = defaultValue (tyX8 k) := fun k h => by
  rcases k with _ | _ | _ | _ | _ | _ | _ | _ | _ | _ | _ | _ | _ | _ | _ | _ | _ | _ | _ | _ | _ | _ | _ | _ | _ | _ | _ | _ | _ | _ | _ | _ | _ | _ | _ | _ | _ | _ | _ | _ | _ | _ | _ | _ | _ | _ | _ | _ | _ | _ | _ | _ | _ | _ | _ | _ | _ | _ | _ | _ | _ | _ | _ | _ | _ | _ | _ | _ | _ | _ | _ | _ | _ | _ | _ | _ | _ | _ | _ | _ | _ | _ | _ | _ | _ | _ | _ | _ | _ | _ | _ | _ | _ | _ | _ | _ | _ | _ | _ | _ | _ | _ | _ | _ | _ | _ | _ | _ | k <;> first | rfl | (exfalso; omega)
