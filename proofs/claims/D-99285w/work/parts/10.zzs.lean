/-! arrays of arrays, made by a constructor (nothing stands: b = false) -/
set_option maxRecDepth 100000
/-- an outer array of tag t, n rows of tag ti and length k behind it -/
def mnx (τ : XS) (t ti n k : Int) : XS := fun c i => if c = τ (-1) 0 then (if i = -1 then t else if i = -2 then n else τ (-1) 0 + 1 + i) else if τ (-1) 0 < c ∧ c ≤ τ (-1) 0 + n then (if i = -1 then ti else if i = -2 then k else 0) else if c = -1 ∧ i = 0 then τ (-1) 0 + 1 + n else if c = -1 ∧ i = 1 then τ (-1) 1 + n + n * k else τ c i
section Xmulti
variable {l : Launch} {nL x0 : Nat} {D : XD} {tv dp c0 s0 : Nat} {res : RX} {σ : XS} {lv : List (Nat × Value)} {st : List Value} {cc : ByteArray} {own mn : String} {xt : List ExceptionTableEntry} {ret : Option FieldType}
theorem outerC_V (cA : ClassId) (N h0 : Nat) : ∀ i, i ≤ N → Jvm.Free.Multi.outerC cA N h0 i = arrV cA N (fun j => if j < i then .ref (h0 + 1 + j) else .null)
  | 0, _ => by rw [Jvm.Free.Multi.outerC, arrV_new]; congr 1
  | i + 1, h => by
    rw [Jvm.Free.Multi.outerC, outerC_V cA N h0 i (by omega), arrV_store]
    congr 1
    funext j
    show (if j = i then Value.ref (h0 + 1 + i) else if j < i then Value.ref (h0 + 1 + j) else Value.null) = _
    by_cases hj : j = i
    · subst hj; rw [if_pos rfl, if_pos (by omega)]
    · rw [if_neg hj]
      by_cases h2 : j < i
      · rw [if_pos h2, if_pos (by omega)]
      · rw [if_neg h2, if_neg (by omega)]
theorem arrV_ext (cI : ClassId) {N : Nat} {f g : Nat → Value} (h : ∀ j, j < N → f j = g j) : arrV cI N f = arrV cI N g := by
  unfold arrV
  congr 1
  congr 1
  funext j
  exact h j.val j.isLt
theorem mnx_C {t ti n k : Int} (h0 : 0 ≤ σ (-1) 0) : mnx σ t ti n k (-1) 0 = σ (-1) 0 + 1 + n := by unfold mnx; rw [if_neg (by omega), if_neg (by omega), if_pos ⟨rfl, rfl⟩]
theorem mnx_S {t ti n k : Int} (h0 : 0 ≤ σ (-1) 0) : mnx σ t ti n k (-1) 1 = σ (-1) 1 + n + n * k := by unfold mnx; rw [if_neg (by omega), if_neg (by omega), if_neg (by omega), if_pos ⟨rfl, rfl⟩]
theorem mnx_o {t ti n k : Int} {c i : Int} (h : c < σ (-1) 0) (h2 : c ≠ -1 ∨ (i ≠ 0 ∧ i ≠ 1)) : mnx σ t ti n k c i = σ c i := by unfold mnx; rw [if_neg (by omega), if_neg (by omega), if_neg (by omega), if_neg (by omega)]
theorem gx_multi (pc : Nat) {t ti : Nat} {ty : FieldType} {idx : Nat} {n k : Int} {nm : String} {τ' : XS} (hp : 0 ≤ σ (-1) 0 ∧ 0 ≤ σ (-1) 1) (hty : (t, .array ty) ∈ arrK) (hti : (ti, ty) ∈ arrK) (ht : 100 ≤ t) (hti1 : 100 ≤ ti) (hn : 0 ≤ i32 n ∧ i32 n < 1000) (hk : 0 ≤ i32 k ∧ i32 k < 1000) (hev : ∀ c j v : Int, evl false x0 t c j v = rf x0 v) (hevi : ∀ c j : Int, evl false x0 ti c j 0 = defaultValue ty)
    (hnm : "[" ++ (FieldType.array ty).toString = nm) (hbt : componentBytes ty ≤ 8) (hdf : fits ty (defaultValue ty) = true) (hdd : (defaultValue ty).isDefault = true) (hl : Cond.classLink own idx nm ∈ lw_all) (ho : ∀ U, XK x0 D U → va_AA ty U) (har : Cond.arrayClass ty ∈ lw_all) (hti2 : ∀ U, va_RA U (D.2.2.1 ti) ty → U.vm.findClass (FieldType.array ty).toString = some (D.2.2.1 ti)) (hs' : τ' = mnx σ t ti (i32 n) (i32 k)) (hd : decode cc pc = .ok (.multianewarray idx 2, 4))
    (kk : GX l cc own nL ret mn xt x0 D false tv dp c0 s0 res τ' (pc + 4) lv (.ref (ad x0 (σ (-1) 0)) :: st)) : GX l cc own nL ret mn xt x0 D false tv dp c0 s0 res σ pc lv (J k :: J n :: st) := by
  have eC : nC τ' = nC σ + 1 + (i32 n).toNat := by subst hs'; unfold nC; rw [mnx_C hp.1]; omega
  have eS : nS τ' = nS σ + (i32 n).toNat + (i32 n).toNat * (i32 k).toNat := by
    subst hs'; unfold nS; rw [mnx_S hp.1]
    have h1 : i32 n * i32 k = (((i32 n).toNat * (i32 k).toNat : Nat) : Int) := by rw [Int.natCast_mul, Int.toNat_of_nonneg hn.1, Int.toNat_of_nonneg hk.1]
    omega
  have g1 := kk.1.1
  have g2 := kk.1.2
  refine ⟨⟨by omega, by omega⟩, fun p e s m args below meth c hC H locs ls hR hS hv z1 z2 => ?_⟩
  have hKs := hC.2.2.2.2.2.2.2.1
  have hsz : H.size = ad x0 (σ (-1) 0) := by rw [hR.2.2.2.2.1]; unfold ad nC; rw [if_pos hp.1]
  have iN := ix_of hn.1
  have iK := ix_of hk.1
  have hN : (Int32.ofInt n).toNatClampNeg = (i32 n).toNat := by omega
  have hK : (Int32.ofInt k).toNatClampNeg = (i32 k).toNat := by omega
  intro T hT X
  obtain ⟨vm₁, cA, comp, hW, hfA, hfC, hO, hI, X1, step⟩ := X.multianewarray2F hC.1 hC.2.2.2.2.1 (ty := ty) (index := idx) (by rw [hnm]; exact hC.2.2.2.2.2.1 _ hl) (ho s hKs) (hC.2.2.2.2.2.1 _ har) (g := F0 m pc ls (J k :: J n :: st)) rfl (by rw [hC.2.1]; exact hd) (n := Int32.ofInt n) (k := Int32.ofInt k) (rest := st) rfl
    (fun h => by have := (lt320 n).mp h; omega) (fun h => by have := (lt320 k).mp h; omega) (by omega) (by
      rw [hK]
      have : (i32 k).toNat * componentBytes ty ≤ 1000 * 8 := Nat.mul_le_mul (by omega) hbt
      omega) (by omega) hdf hdd (by show _ ≤ nC res.2.2 - c0; omega) (by
      show _ ≤ nS res.2.2 - s0
      rw [hN, hK]
      omega)
  rw [hN, hK] at X1 step
  have hcA : cA = D.2.2.1 t := Option.some.inj (hfA.symm.trans (x_nm (C := nm) (hKs.2.1 _ hty).2 rfl))
  have hcm : comp = D.2.2.1 ti := Option.some.inj (hfC.symm.trans (hti2 s (hKs.2.1 _ hti).2))
  subst hcA; subst hcm
  generalize hF : Jvm.Free.Multi.fill (T.setVm vm₁) (D.2.2.1 t) (D.2.2.1 ti) (i32 n).toNat (i32 k).toNat (defaultValue ty) (i32 n).toNat = F at X1 step
  have ff := Jvm.Free.Multi.fill_facts (T.setVm vm₁) (D.2.2.1 t) (D.2.2.1 ti) (i32 n).toNat (i32 k).toNat (defaultValue ty) (i32 n).toNat
  have fo : ∀ a : Nat, a < H.size → F.heap[a]? = H[a]? := fun a ha => by
    have := Jvm.Free.Multi.fill_old (T.setVm vm₁) (D.2.2.1 t) (D.2.2.1 ti) (i32 n).toNat (i32 k).toNat (defaultValue ty) (a := a) (by rw [State.heap_setVm, hT]; exact ha) (i32 n).toNat
    rw [hF, State.heap_setVm, hT] at this
    exact this
  have fi := fun j hj => Jvm.Free.Multi.fill_inner (T.setVm vm₁) (D.2.2.1 t) (D.2.2.1 ti) (i32 n).toNat (i32 k).toNat (defaultValue ty) (i32 n).toNat j hj
  rw [hF, State.heap_setVm, hT] at ff
  rw [hF, State.heap_setVm, hT] at fi
  have hS' : va_S (XA x0) s.heap F.heap locs := ⟨Nat.le_trans hS.1 (by omega), fun x h1 h2 => (fo x (Nat.lt_of_lt_of_le h1 hS.1)).trans (hS.2.1 x h1 h2), hS.2.2⟩
  have hR' : XRp false x0 D τ' F.heap := by
    subst hs'
    have hR0 := hR
    obtain ⟨h0, h1, h2, h3, h4, h5⟩ := hR
    have hs0 : H.size = x0 + (σ (-1) 0).toNat := h4
    have h1k : 0 ≤ i32 n * i32 k := Int.mul_nonneg hn.1 hk.1
    refine ⟨h0, by rw [mnx_C h1]; omega, by rw [mnx_S h1]; omega, ⟨fun hb => by (cases hb), fun q => by rw [mnx_o (by omega) (Or.inr ⟨by omega, by omega⟩)]; exact h3.2 q⟩, ?_, fun q hq => ?_⟩
    · rw [ff.1, h4]; unfold nC; rw [mnx_C h1]; omega
    · rw [mnx_C h1]
      have et : tg false (mnx σ t ti (i32 n) (i32 k)) q = (mnx σ t ti (i32 n) (i32 k) q (-1)).toNat := by unfold tg; rw [if_neg (by simp), if_neg (by simp)]
      have el : ln false (mnx σ t ti (i32 n) (i32 k)) q = mnx σ t ti (i32 n) (i32 k) q (-2) := by unfold ln; rw [if_neg (by simp)]
      by_cases c1 : q = σ (-1) 0
      · have e1 : mnx σ t ti (i32 n) (i32 k) q (-1) = t := by unfold mnx; rw [if_pos c1, if_pos rfl]
        have e2 : mnx σ t ti (i32 n) (i32 k) q (-2) = i32 n := by unfold mnx; rw [if_pos c1, if_neg (by decide), if_pos rfl]
        rw [et, el, e1, e2]
        refine ⟨by omega, by omega, ?_⟩
        have : ((t : Int)).toNat = t := rfl
        rw [this]
        unfold COK
        rw [if_neg (by omega)]
        refine ⟨hn.1, ?_⟩
        have ea : ad x0 q = H.size := by rw [hsz, c1]
        rw [ea, ff.2.1, outerC_V _ _ _ _ (Nat.le_refl _)]
        refine congrArg some (arrV_ext _ fun j hj => ?_)
        have e3 : mnx σ t ti (i32 n) (i32 k) q (j : Int) = σ (-1) 0 + 1 + j := by unfold mnx; rw [if_pos c1, if_neg (by omega), if_neg (by omega)]
        have e4 : ad x0 (σ (-1) 0 + 1 + j) = x0 + (σ (-1) 0).toNat + 1 + j := by unfold ad; rw [if_pos (by omega)]; omega
        rw [if_pos hj, hev, e3, rf_ne (by omega), e4, hs0]
      · by_cases c2 : σ (-1) 0 < q ∧ q ≤ σ (-1) 0 + i32 n
        · have e1 : mnx σ t ti (i32 n) (i32 k) q (-1) = ti := by unfold mnx; rw [if_neg c1, if_pos c2, if_pos rfl]
          have e2 : mnx σ t ti (i32 n) (i32 k) q (-2) = i32 k := by unfold mnx; rw [if_neg c1, if_pos c2, if_neg (by decide), if_pos rfl]
          rw [et, el, e1, e2]
          refine ⟨by omega, by omega, ?_⟩
          have : ((ti : Int)).toNat = ti := rfl
          rw [this]
          unfold COK
          rw [if_neg (by omega)]
          refine ⟨hk.1, ?_⟩
          have ea : ad x0 q = H.size + 1 + (q - σ (-1) 0 - 1).toNat := by unfold ad; rw [if_pos (by omega)]; omega
          rw [ea, fi _ (by omega)]
          unfold Jvm.Free.Multi.innerC
          rw [arrV_new]
          refine congrArg some (arrV_ext _ fun j hj => ?_)
          have e3 : mnx σ t ti (i32 n) (i32 k) q (j : Int) = 0 := by unfold mnx; rw [if_neg c1, if_pos c2, if_neg (by omega), if_neg (by omega)]
          rw [e3, hevi]
        · have e1 : mnx σ t ti (i32 n) (i32 k) q (-1) = σ q (-1) := by unfold mnx; rw [if_neg c1, if_neg c2, if_neg (by omega), if_neg (by omega)]
          have et0 : tg false σ q = (σ q (-1)).toNat := by unfold tg; rw [if_neg (by simp), if_neg (by simp)]
          have hq0 : tg false σ q ≠ 0 := by rw [et0, ← e1, ← et]; exact hq
          obtain ⟨a1, a2, a3⟩ := h5 q hq0
          have ef : mnx σ t ti (i32 n) (i32 k) q = σ q := by funext i; exact mnx_o (by omega) (Or.inl a2)
          have el0 : ln false σ q = σ q (-2) := by unfold ln; rw [if_neg (by simp)]
          rw [et, el, ef, ← et0, ← el0]
          refine ⟨by omega, a2, a3.kept (fo _ ?_)⟩
          rw [hs0]
          unfold ad
          split <;> omega
  have key := kk.2 p e s m args below meth c hC F.heap locs ls hR' hS' hv (by omega) (by omega)
  rw [← hsz] at key
  have e9 : nC σ - c0 + 1 + (i32 n).toNat = nC τ' - c0 := by omega
  have e8 : nS σ - s0 + (i32 n).toNat + (i32 n).toNat * (i32 k).toNat = nS τ' - s0 := by omega
  rw [e9, e8] at X1
  obtain ⟨t2, a1, b1⟩ := key F rfl X1
  rw [hT] at step
  exact ⟨t2, step t2 a1, b1⟩
end Xmulti
theorem gx_aload_nN {l : Launch} {nL x0 : Nat} {D : XD} {b : Bool} {tv dp c0 s0 : Nat} {res : RX} {σ : XS} {lv : List (Nat × Value)} {st : List Value} {cc : ByteArray} {own mn : String} {xt : List ExceptionTableEntry} {ret : Option FieldType} (pc q : Nat) {i : Fin 4} (hd : decode cc pc = .ok (.aload_n i, 1)) (hq : lv[q]? = some ((i : Nat), .null)) (k : GX l cc own nL ret mn xt x0 D b tv dp c0 s0 res σ (pc + 1) lv (.null :: st)) : GX l cc own nL ret mn xt x0 D b tv dp c0 s0 res σ pc lv st :=
  ⟨k.1, fun p e s m args below meth c hC H locs ls hR hS hv z1 z2 => lv_aload_nN hC.1 hC.2.1 hd rfl (lv_at hv q hq) (k.2 p e s m args below meth c hC H locs ls hR hS hv z1 z2)⟩
