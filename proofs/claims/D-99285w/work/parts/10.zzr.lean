set_option maxRecDepth 100000
abbrev isAt (t : Nat) : Prop := t = 14 ∨ t = 15 ∨ t = 16 ∨ t = 17 ∨ t = 18
theorem gx_castAt {l : Launch} {nL x0 : Nat} {D : XD} {b : Bool} {tv dp c0 s0 : Nat} {res : RX} {σ : XS} {lv : List (Nat × Value)} {st : List Value} {cc : ByteArray} {own mn : String} {xt : List ExceptionTableEntry} {ret : Option FieldType} (pc : Nat) {idx : Nat} {ce : Int} (ht : isAt (tg b σ ce)) (hl : Cond.classLink own idx "VerbAtDusk$Value" ∈ lw_all) (hd : decode cc pc = .ok (.checkcast idx, 3)) (k : GX l cc own nL ret mn xt x0 D b tv dp c0 s0 res σ (pc + 3) lv (.ref (ad x0 ce) :: st)) : GX l cc own nL ret mn xt x0 D b tv dp c0 s0 res σ pc lv (.ref (ad x0 ce) :: st) := by
  rcases ht with ht | ht | ht | ht | ht
  · exact gx_cast pc cw14 ht hl q2637 hd k
  · exact gx_cast pc cw15 ht hl q2640 hd k
  · exact gx_cast pc cw16 ht hl q2638 hd k
  · exact gx_cast pc cw17 ht hl q2636 hd k
  · exact gx_cast pc cw18 ht hl q2639 hd k
abbrev isHo (t : Nat) : Prop := t = 11 ∨ t = 12 ∨ t = 13 ∨ t = 19
theorem gx_castHo {l : Launch} {nL x0 : Nat} {D : XD} {b : Bool} {tv dp c0 s0 : Nat} {res : RX} {σ : XS} {lv : List (Nat × Value)} {st : List Value} {cc : ByteArray} {own mn : String} {xt : List ExceptionTableEntry} {ret : Option FieldType} (pc : Nat) {idx : Nat} {ce : Int} (ht : isHo (tg b σ ce)) (hl : Cond.classLink own idx "VerbAtDusk$Test" ∈ lw_all) (hd : decode cc pc = .ok (.checkcast idx, 3)) (k : GX l cc own nL ret mn xt x0 D b tv dp c0 s0 res σ (pc + 3) lv (.ref (ad x0 ce) :: st)) : GX l cc own nL ret mn xt x0 D b tv dp c0 s0 res σ pc lv (.ref (ad x0 ce) :: st) := by
  rcases ht with ht | ht | ht | ht
  · exact gx_cast pc cw11 ht hl q2633 hd k
  · exact gx_cast pc cw12 ht hl q2634 hd k
  · exact gx_cast pc cw13 ht hl q2632 hd k
  · exact gx_cast pc cw19 ht hl q2635 hd k
abbrev isNa (t : Nat) : Prop := t = 9 ∨ t = 10
theorem gx_castNa {l : Launch} {nL x0 : Nat} {D : XD} {b : Bool} {tv dp c0 s0 : Nat} {res : RX} {σ : XS} {lv : List (Nat × Value)} {st : List Value} {cc : ByteArray} {own mn : String} {xt : List ExceptionTableEntry} {ret : Option FieldType} (pc : Nat) {idx : Nat} {ce : Int} (ht : isNa (tg b σ ce)) (hl : Cond.classLink own idx "VerbAtDusk$Named" ∈ lw_all) (hd : decode cc pc = .ok (.checkcast idx, 3)) (k : GX l cc own nL ret mn xt x0 D b tv dp c0 s0 res σ (pc + 3) lv (.ref (ad x0 ce) :: st)) : GX l cc own nL ret mn xt x0 D b tv dp c0 s0 res σ pc lv (.ref (ad x0 ce) :: st) := by
  rcases ht with ht | ht
  · exact gx_cast pc cw9 ht hl q2630 hd k
  · exact gx_cast pc cw10 ht hl q2631 hd k
section Xrows
variable {l : Launch} {nL x0 : Nat} {D : XD} {b : Bool} {tv dp c0 s0 : Nat} {res : RX} {σ : XS} {lv : List (Nat × Value)} {st : List Value} {cc : ByteArray} {own mn : String} {xt : List ExceptionTableEntry} {ret : Option FieldType}
/-! names of sayings and verbs -/
theorem gx_getNa (pc : Nat) {idx : Nat} {ce : Int} (ht : isNa (tg b σ ce)) (hl : Cond.fieldLink own idx "VerbAtDusk$Named" "name" "Ljava/lang/String;" ∈ lw_all) (hne : ¬ σ ce 0 = -1) (hd : decode cc pc = .ok (.getfield idx, 3))
    (kk : GX l cc own nL ret mn xt x0 D b tv dp c0 s0 res σ (pc + 3) lv (.ref (ad x0 (σ ce 0)) :: st)) : GX l cc own nL ret mn xt x0 D b tv dp c0 s0 res σ pc lv (.ref (ad x0 ce) :: st) := by
  rcases ht with ht | ht
  · exact gx_get (t := 9) (k := 0) pc cw9 (by decide) ht hl same_f (rf_ne hne) hd kk
  · exact gx_get (t := 10) (k := 0) pc cw10 (by decide) ht hl same_f (rf_ne hne) hd kk
theorem gx_putNa (pc : Nat) (hmn : mn = "<init>") (hown : own = "VerbAtDusk$Named") {idx : Nat} {ce v : Int} {τ' : XS} (ht : isNa (tg b σ ce)) (h0 : 0 ≤ ce) (hm : ¬ (1438 ≤ ce ∧ ce < 1514)) (hl : Cond.fieldLink own idx "VerbAtDusk$Named" "name" "Ljava/lang/String;" ∈ lw_all) (hne : ¬ v = -1) (hs' : τ' = ux σ ce 0 v) (hd : decode cc pc = .ok (.putfield idx, 3))
    (kk : GX l cc own nL ret mn xt x0 D b tv dp c0 s0 res τ' (pc + 3) lv st) : GX l cc own nL ret mn xt x0 D b tv dp c0 s0 res σ pc lv (.ref (ad x0 v) :: .ref (ad x0 ce) :: st) := by
  subst hown
  rcases ht with ht | ht
  · exact gx_putF (t := 9) (k := 0) (x := v) (ty := (.object "java/lang/String")) pc hmn cw9 (by decide) ht h0 hm hl same_f rfl rfl (by decide +kernel) (refOk rfl _).1 (refOk rfl _).2 ((congrArg (rf x0) (ux_s _ _ _ _)).trans (rf_ne hne)) hs' hd kk
  · exact gx_putF (t := 10) (k := 0) (x := v) (ty := (.object "java/lang/String")) pc hmn cw10 (by decide) ht h0 hm hl same_f rfl rfl (by decide +kernel) (refOk rfl _).1 (refOk rfl _).2 ((congrArg (rf x0) (ux_s _ _ _ _)).trans (rf_ne hne)) hs' hd kk
/-- a method of a class above the receiver's -/
theorem gx_callO (pc n : Nat) {y : MethodName} {bytes : ByteArray} {maxL d1 idx tv1 t : Nat} {ce : Int} {q : vw_C} {rt : Option FieldType} {As rest st' : List Value} {z : Int × XS} (hq : ClsW t q) (ht : tg b σ ce = t)
    (hM : XMet0 l y bytes maxL rt d1 b x0 D (.ref (ad x0 ce) :: As) σ tv1 z) (hw : GoodIn lw_all (va_wsO own idx q.1 y.cls y y (ws_ y bytes maxL rt)))
    (hd1 : y.cls ≠ "java/lang/invoke/MethodHandle" ∧ y.cls ≠ "java/lang/invoke/VarHandle" ∧ (parseMethodDescriptor y.desc).map (fun d => d.parameters.length) = some n) (hR : d1 + 1 ≤ dp ∧ 8 + (maxL + 11) + 80 * d1 ≤ 80 * dp)
    (hn : As.length = n) (hst : st = As.reverse ++ .ref (ad x0 ce) :: rest) (hW : (rest.map fun v => v.category).sum ≤ 8) (hd : decode cc pc = .ok (.invokevirtual idx, 3)) (hst' : (tvx x0 tv1 z.1).toList ++ rest = st')
    (k : GX l cc own nL ret mn xt x0 D b tv dp c0 s0 res z.2 (pc + 3) lv st') : GX l cc own nL ret mn xt x0 D b tv dp c0 s0 res σ pc lv st :=
  gx_run pc hM.1 hst' (fun p e s m args below meth c hC H locs ls hRp hS hv g1 => va_runU (g := F0 m pc ls st) (rest := rest) ⟨hC.1, hC.2.1, hC.2.2.2.1, hC.2.2.2.2.1, hC.2.2.2.2.2.1⟩ hM.2 (va_cwO n hC.2.2.2.2.2.1 hw rfl rfl rfl (h0 := (hw (Cond.code y bytes maxL rt) (by unfold va_wsO ws_; exact List.mem_append_right _ List.mem_cons_self)).1) hd1 hR) ⟨xPre_blind, x_recv hC ht hq hRp, fun U hU hW => ⟨rfl, by rw [hU]; exact hRp, XK_warm hW (hS.F hU) hC.2.2.2.2.2.2.2.1⟩⟩ rfl hn hv.1 hst (lv_room hW) hd g1) k
/-- a String constant of the reader -/
theorem gx_ldcS (pc : Nat) {idx j : Nat} {tx : String} (hq : (idx, tx, j) ∈ xsc) (hown : own = RX2) (hd : decode cc pc = .ok (.ldc idx, 2)) (k : GX l cc own nL ret mn xt x0 D b tv dp c0 s0 res σ (pc + 2) lv (.ref (ad x0 (σ (-1) (100 + (j : Int)))) :: st)) : GX l cc own nL ret mn xt x0 D b tv dp c0 s0 res σ pc lv st := by
  subst hown
  exact ⟨k.1, fun p e s m args below meth c hC H locs ls hR hS hv z1 z2 => va_ldcS hC.1 hC.2.1 hC.2.2.2.2.1 (hC.2.2.2.2.2.2.2.1.2.2.2.2.2.2.2.2.1 _ hq) hd (by rw [← hR.2.2.2.1.2 j]; exact k.2 p e s m args below meth c hC H locs ls hR hS hv z1 z2)⟩
theorem x_ldcSw {p : Program} {l : Launch} {e : Env} {R : Room} {s : State} {m : MethodId} {args : Array Value} {below : List Frame} {meth : Method} {c : Code} {H : Heap} {locs : List Loc} {cells slots : Nat} {Q : State → Prop} {cc : ByteArray} {pc : Nat} {ls : Array Slot} {rest : List Value} (hexec : p.tables.exec = Jvm.exec) (hb : c.code = cc) {own tx : String} {index q : Nat} (hown : s.vm.findClass own = some m.cls) (hZ : vk_R own index tx q s) (hdg : decode cc pc = .ok (.ldc_w index, 3))
    (k : W p l e R s m args below meth c H locs cells slots Q (F0 m (pc + 3) ls (.ref q :: rest))) : W p l e R s m args below meth c H locs cells slots Q (F0 m pc ls rest) := by
  intro T hT X
  obtain ⟨t, a1, b1⟩ := k T hT X
  exact ⟨t, X.ldcStringW hexec hown (text := tx) (a := q) hZ.1 hZ.2 (g := F0 m pc ls rest) rfl (by rw [hb]; exact hdg) t a1, b1⟩
theorem gx_ldcSw (pc : Nat) {idx j : Nat} {tx : String} (hq : (idx, tx, j) ∈ xsc) (hown : own = RX2) (hd : decode cc pc = .ok (.ldc_w idx, 3)) (k : GX l cc own nL ret mn xt x0 D b tv dp c0 s0 res σ (pc + 3) lv (.ref (ad x0 (σ (-1) (100 + (j : Int)))) :: st)) : GX l cc own nL ret mn xt x0 D b tv dp c0 s0 res σ pc lv st := by
  subst hown
  exact ⟨k.1, fun p e s m args below meth c hC H locs ls hR hS hv z1 z2 => x_ldcSw hC.1 hC.2.1 hC.2.2.2.2.1 (hC.2.2.2.2.2.2.2.1.2.2.2.2.2.2.2.2.1 _ hq) hd (by rw [← hR.2.2.2.1.2 j]; exact k.2 p e s m args below meth c hC H locs ls hR hS hv z1 z2)⟩
/-- the class object of Object[] -/
theorem gx_ldcM (pc : Nat) {idx : Nat} (hl : Cond.classLink own idx "[Ljava/lang/Object;" ∈ lw_all) (hd : decode cc pc = .ok (.ldc idx, 2)) (k : GX l cc own nL ret mn xt x0 D b tv dp c0 s0 res σ (pc + 2) lv (.ref (ad x0 (σ (-1) 109)) :: st)) : GX l cc own nL ret mn xt x0 D b tv dp c0 s0 res σ pc lv st :=
  ⟨k.1, fun p e s m args below meth c hC H locs ls hR hS hv z1 z2 => va_ldcM hC.1 hC.2.1 hC.2.2.2.2.1 (hC.2.2.2.2.2.1 _ hl) hC.2.2.2.2.2.2.2.1.2.2.2.2.2.2.2.2.2.1 hd (by rw [← hR.2.2.2.1.2 9]; exact k.2 p e s m args below meth c hC H locs ls hR hS hv z1 z2)⟩
theorem x_nm {C nm : String} {U : State} {cA : ClassId} {ty : FieldType} (h : va_RA U cA ty) (e : "[" ++ ty.toString = nm) : U.vm.findClass nm = some cA := by
  subst e
  cases ty with
  | object C => exact h.elim fun _ h => h.elim fun _ h => h.2.2.2
  | _ => exact h
theorem x_arecv {p : Program} {s : State} {m : MethodId} {args : Array Value} {meth : Method} {c : Code} (hC : XC p s m args meth c cc own nL ret mn xt x0 D) {ce : Int} {t : Nat} {ty : FieldType} {nm : String} (ht : tg b σ ce = t) (h1 : 100 ≤ t) (hk : (t, ty) ∈ arrK) (e : "[" ++ ty.toString = nm) {H : Heap} (hR : XRp b x0 D σ H) : ∃ cell : Cell, H[ad x0 ce]? = some cell ∧ cell.vm.isStatics = false ∧ s.vm.findClass nm = some cell.cls :=
  ⟨_, (hR.arr ht h1).2, rfl, x_nm (C := nm) (hC.2.2.2.2.2.2.2.1.2.1 _ hk).2 e⟩
theorem gx_getC (pc : Nat) {idx : Nat} {ce : Int} (ht : tg b σ ce = 110) (hl : Cond.methodLink own idx ⟨"java/lang/Object", "getClass", "()Ljava/lang/Class;"⟩ ∈ lw_all) (hdc : Cond.declares ⟨"java/lang/Object", "getClass", "()Ljava/lang/Class;"⟩ ∈ lw_tbl)
    (hse : Cond.selects "[Ljava/lang/Object;" ⟨"java/lang/Object", "getClass", "()Ljava/lang/Class;"⟩ ⟨"java/lang/Object", "getClass", "()Ljava/lang/Class;"⟩ ∈ lw_all) (hi : Cond.instanceMethod ⟨"java/lang/Object", "getClass", "()Ljava/lang/Class;"⟩ ∈ lw_all) (hna : Cond.native ⟨"java/lang/Object", "getClass", "()Ljava/lang/Class;"⟩ ∈ lw_all) (hR1 : 1 ≤ dp) (hW : (st.map fun v => v.category).sum ≤ 8) (hd : decode cc pc = .ok (.invokevirtual idx, 3))
    (k : GX l cc own nL ret mn xt x0 D b tv dp c0 s0 res σ (pc + 3) lv (.ref (ad x0 (σ (-1) 109)) :: st)) : GX l cc own nL ret mn xt x0 D b tv dp c0 s0 res σ pc lv (.ref (ad x0 ce) :: st) :=
  ⟨k.1, fun p e s m args below meth c hC H locs ls hR hS hv z1 z2 => va_getC hC.1 hC.2.1 (hv.1.trans hC.2.2.2.1.symm).symm hC.2.2.2.2.1 (hC.2.2.2.2.2.1 _ hl) ((hC.2.2.2.2.2.2.2.1.2.2.1 _ hdc rfl).use (A := args) rfl) (hC.2.2.2.2.2.1 _ hse) (hC.2.2.2.2.2.1 _ hi) (hC.2.2.2.2.2.1 _ hna) hC.2.2.2.2.2.2.2.1.2.2.2.2.2.2.2.2.2.1 (x_arecv (ty := .object "java/lang/Object") (nm := "[Ljava/lang/Object;") hC ht (by decide) (by decide) (by decide +kernel) hR) hR1 (by show _ ≤ 80 * dp; omega) hd (by rw [← hR.2.2.2.1.2 9]; exact k.2 p e s m args below meth c hC H locs ls hR hS hv z1 z2)⟩
/-- the cast of an array to what it is -/
theorem gx_castA (pc : Nat) {t idx : Nat} {ce : Int} {ty : FieldType} {nm : String} (h1 : 100 ≤ t) (hk : (t, ty) ∈ arrK) (e : "[" ++ ty.toString = nm) (ht : tg b σ ce = t) (hl : Cond.classLink own idx nm ∈ lw_all) (hd : decode cc pc = .ok (.checkcast idx, 3))
    (k : GX l cc own nL ret mn xt x0 D b tv dp c0 s0 res σ (pc + 3) lv (.ref (ad x0 ce) :: st)) : GX l cc own nL ret mn xt x0 D b tv dp c0 s0 res σ pc lv (.ref (ad x0 ce) :: st) :=
  ⟨k.1, fun p e' s m args below meth c hC H locs ls hR hS hv z1 z2 => va_castE hC.1 hC.2.1 hC.2.2.2.2.1 (hC.2.2.2.2.2.1 _ hl) (x_arecv hC ht h1 hk e hR) hd (k.2 p e' s m args below meth c hC H locs ls hR hS hv z1 z2)⟩
end Xrows
section Xcopy
variable {l : Launch} {nL x0 : Nat} {D : XD} {b : Bool} {tv dp c0 s0 : Nat} {res : RX} {σ : XS} {lv : List (Nat × Value)} {st : List Value} {cc : ByteArray} {own mn : String} {xt : List ExceptionTableEntry} {ret : Option FieldType}
/-- one cell's places changed -/
theorem XRp.rep {H H1 : Heap} (hR : XRp b x0 D σ H) {τ' : XS} {ce : Int} (hc : 0 ≤ ce) (ho : ∀ c, c ≠ ce → τ' c = σ c) (g1 : τ' ce (-1) = σ ce (-1)) (g2 : τ' ce (-2) = σ ce (-2)) (hz : H1.size = H.size) (e3 : ∀ q : Nat, q ≠ ad x0 ce → H1[q]? = H[q]?)
    (hn : tg b σ ce ≠ 0 → COK b x0 D (tg b σ ce) (ln b σ ce) ce (τ' ce) H1) : XRp b x0 D τ' H1 := by
  obtain ⟨h0, h1, h2, h3, h4, h5⟩ := hR
  have m1 : τ' (-1) = σ (-1) := ho _ (by omega)
  have et : ∀ c, tg b τ' c = tg b σ c := fun c => by
    by_cases h : c = ce
    · subst h; unfold tg; rw [g1]
    · unfold tg; rw [ho c h]
  have el : ∀ c, ln b τ' c = ln b σ c := fun c => by
    by_cases h : c = ce
    · subst h; unfold ln; rw [g2]
    · unfold ln; rw [ho c h]
  refine ⟨h0, by rw [m1]; exact h1, by rw [m1]; exact h2, by rw [m1]; exact h3, by rw [hz, h4]; unfold nC; rw [m1], fun c' hc' => ?_⟩
  rw [et] at hc' ⊢
  rw [el, m1]
  obtain ⟨a1, a2, a3⟩ := h5 c' hc'
  refine ⟨a1, a2, ?_⟩
  by_cases hce : c' = ce
  · subst hce; exact hn hc'
  · rw [ho c' hce]
    exact a3.kept (e3 _ (fun h => hce (ad_inj h0 hc a2 h)))
/-- places copied from array to array -/
def cpx (τ : XS) (src sp dst dp n : Int) : XS := fun c i => if c = dst ∧ dp ≤ i ∧ i < dp + n then τ src (i - dp + sp) else τ c i
theorem cpx_le {τ' : XS} {src sp dst q n : Int} (h0 : 0 ≤ dst) (hs' : τ' = cpx σ src sp dst q n) : nC τ' = nC σ ∧ nS τ' = nS σ := by
  subst hs'
  unfold nC nS cpx
  rw [if_neg (by omega), if_neg (by omega)]
  exact ⟨rfl, rfl⟩
theorem ix_of {x : Int} (h : 0 ≤ i32 x) : (((Int32.ofInt x).toNatClampNeg : Nat) : Int) = i32 x := ok_ix (n := i32 x + 1) ⟨h, by omega⟩
theorem gx_copy (pc : Nat) {t : Nat} {ty : FieldType} {idx : Nat} {src sp dst q n : Int} {τ' : XS} (ht1 : 100 ≤ t) (hk : (t, ty) ∈ arrK) (hev : ∀ (c c' j j' v : Int), evl b x0 t c j v = evl b x0 t c' j' v) (hts : tg b σ src = t) (htd : tg b σ dst = t) (h0 : 0 ≤ dst) (hm : ¬ (1438 ≤ dst ∧ dst < 1514))
    (hsp : 0 ≤ i32 sp) (hq : 0 ≤ i32 q) (hn : 0 ≤ i32 n) (h4 : i32 sp + i32 n ≤ ln b σ src) (h5 : i32 q + i32 n ≤ ln b σ dst)
    (hl : Cond.methodLink own idx arraycopyName ∈ lw_all) (hna : Cond.native arraycopyName ∈ lw_all) (hstt : Cond.static arraycopyName ∈ lw_all) (hini : Cond.initialized "java/lang/System" ∈ lw_all)
    (hel : ∀ (p : Program) (s : State) (m : MethodId) (args : Array Value) (meth : Method) (c : Code), XC p s m args meth c cc own nL ret mn xt x0 D → ∀ H : Heap, XRp b x0 D σ H → ∀ (k1 : Class) (cm : ClassId), s.vm.classes[D.2.2.1 t]? = some k1 → k1.kind = .array cm ty → ∀ vm', s.vm.Alike vm' → ∀ T : State, T.heap = H → ∀ i : Nat, (i : Int) < i32 n → fits ty (evl b x0 t src (i32 sp + i) (σ src (i32 sp + i))) = true ∧ (T.setVm vm').takes cm (evl b x0 t src (i32 sp + i) (σ src (i32 sp + i))))
    (hR1 : 1 ≤ dp) (hW : (st.map fun v => v.category).sum ≤ 8) (hs' : τ' = cpx σ src (i32 sp) dst (i32 q) (i32 n)) (hd : decode cc pc = .ok (.invokestatic idx, 3))
    (kk : GX l cc own nL ret mn xt x0 D b tv dp c0 s0 res τ' (pc + 3) lv st) : GX l cc own nL ret mn xt x0 D b tv dp c0 s0 res σ pc lv (J n :: J q :: .ref (ad x0 dst) :: J sp :: .ref (ad x0 src) :: st) := by
  have hle := cpx_le h0 hs'
  refine ⟨⟨by rw [← hle.1]; exact kk.1.1, by rw [← hle.2]; exact kk.1.2⟩, fun p e s m args below meth c hC H locs ls hR hS hv z1 z2 => ?_⟩
  intro T hT X
  have hc0 := (hR.arr hts ht1).2
  have hc1 := (hR.arr htd ht1).2
  have l0 := (hR.arr hts ht1).1
  have l1 := (hR.arr htd ht1).1
  have is := ix_of hsp
  have iq := ix_of hq
  have iN := ix_of hn
  have hA := (hC.2.2.2.2.2.2.2.1.2.1 _ hk).1
  obtain ⟨-, k1, hk1, cm1, hkk1⟩ := hA (ln b σ dst).toNat (fun j => evl b x0 t dst j (σ dst j))
  have hk1 : s.vm.classes[D.2.2.1 t]? = some k1 := hk1
  have hkk1 : k1.kind = .array cm1 ty := hkk1
  have e0 : ∀ i : Nat, (i : Int) < i32 n → (arrV (D.2.2.1 t) (ln b σ src).toNat (fun j => evl b x0 t src j (σ src j))).slots.getD ((Int32.ofInt sp).toNatClampNeg + i) .null = evl b x0 t src (i32 sp + i) (σ src (i32 sp + i)) := fun i hi => by
    rw [Array.getD_eq_getD_getElem?, arrV_read _ _ (by omega)]
    show evl b x0 t src (((Int32.ofInt sp).toNatClampNeg + i : Nat) : Int) (σ src (((Int32.ofInt sp).toNatClampNeg + i : Nat) : Int)) = _
    have : (((Int32.ofInt sp).toNatClampNeg + i : Nat) : Int) = i32 sp + i := by omega
    rw [this]
  obtain ⟨vm', X', step⟩ := X.arraycopy hC.1 hC.2.2.2.2.1 (hC.2.2.2.2.2.1 _ hl) (hC.2.2.2.2.2.1 _ hna) (hC.2.2.2.2.2.1 _ hstt) (hC.2.2.2.2.2.1 _ hini) (src := ad x0 src) (dst := ad x0 dst) (cs := arrV (D.2.2.1 t) (ln b σ src).toNat (fun j => evl b x0 t src j (σ src j))) (cd := arrV (D.2.2.1 t) (ln b σ dst).toNat (fun j => evl b x0 t dst j (σ dst j))) (srcPos := Int32.ofInt sp) (destPos := Int32.ofInt q) (n := Int32.ofInt n) (by rw [hT]; exact hc0) (by rw [hT]; exact hc1)
    (fun _ h => by cases h) (fun _ h => by cases h) (fun h => by cases h) (fun h => by cases h) hk1 hk1 hkk1 hkk1 (by simp) (fun h => by have := (lt320 sp).mp h; omega) (fun h => by have := (lt320 q).mp h; omega) (fun h => by have := (lt320 n).mp h; omega)
    (by rw [toInt_ofInt32, toInt_ofInt32, arrV_size]; omega)
    (by rw [toInt_ofInt32, toInt_ofInt32, arrV_size]; omega)
    (fun vm₁ hal i hi => by
      have hi' : (i : Int) < i32 n := by omega
      rw [e0 i hi']
      exact hel p s m args meth c hC H hR k1 cm1 hk1 hkk1 vm₁ hal T hT i hi')
    (g := F0 m pc ls (J n :: J q :: .ref (ad x0 dst) :: J sp :: .ref (ad x0 src) :: st)) rfl (hv.1.trans hC.2.2.2.1.symm) (rest := st) rfl (by rw [hC.2.1]; exact hd) hR1 (by
      have hw : nativeFrameWords "java/lang/System" "arraycopy" 5 ≤ 40 := by decide
      show 2 * 0 + _ + _ ≤ 80 * dp
      omega)
  have e1 : copied (arrV (D.2.2.1 t) (ln b σ src).toNat (fun j => evl b x0 t src j (σ src j))) (arrV (D.2.2.1 t) (ln b σ dst).toNat (fun j => evl b x0 t dst j (σ dst j))) (Int32.ofInt sp) (Int32.ofInt q) (Int32.ofInt n) = arrV (D.2.2.1 t) (ln b σ dst).toNat (fun j => evl b x0 t dst j (τ' dst j)) := by
    refine (va_copied (fun z : Value => z) (D.2.2.1 t) (D.2.2.1 t) (n1 := (ln b σ dst).toNat) (dp := (Int32.ofInt q).toNatClampNeg) (fun j => evl b x0 t src j (σ src j)) (fun j => evl b x0 t dst j (σ dst j)) (by omega)).trans ?_
    congr 1
    funext j
    subst hs'
    unfold va_cpy cpx
    by_cases hj : (Int32.ofInt q).toNatClampNeg ≤ j ∧ j < (Int32.ofInt q).toNatClampNeg + (Int32.ofInt n).toNatClampNeg
    · rw [if_pos hj, if_pos ⟨rfl, by omega, by omega⟩]
      have : (((Int32.ofInt sp).toNatClampNeg + (j - (Int32.ofInt q).toNatClampNeg) : Nat) : Int) = (j : Int) - i32 q + i32 sp := by omega
      show evl b x0 t src (((Int32.ofInt sp).toNatClampNeg + (j - (Int32.ofInt q).toNatClampNeg) : Nat) : Int) (σ src (((Int32.ofInt sp).toNatClampNeg + (j - (Int32.ofInt q).toNatClampNeg) : Nat) : Int)) = _
      rw [this]
      exact hev _ _ _ _ _
    · rw [if_neg hj, if_neg (by omega)]
  rw [e1] at X' step
  have hlt : ad x0 dst < H.size := (Array.getElem?_eq_some_iff.mp hc1).1
  generalize hC1 : arrV (D.2.2.1 t) (ln b σ dst).toNat (fun j => evl b x0 t dst j (τ' dst j)) = cellN at X' step
  have hheap : ((T.setVm vm').setCell (ad x0 dst) cellN).heap = H.setIfInBounds (ad x0 dst) cellN := by rw [← hT]; rfl
  have oq : ∀ z : Nat, z ≠ ad x0 dst → (H.setIfInBounds (ad x0 dst) cellN)[z]? = H[z]? := fun z hz => by simp [Array.getElem?_setIfInBounds, Ne.symm hz]
  have hsame : ∀ c, c ≠ dst → τ' c = σ c := fun c hcne => by subst hs'; funext i; unfold cpx; rw [if_neg (fun h => hcne h.1)]
  have key := kk.2 p e s m args below meth c hC (H.setIfInBounds (ad x0 dst) cellN) (locs ++ ((arrV (D.2.2.1 t) (ln b σ src).toNat (fun j => evl b x0 t src j (σ src j))).stretch (Int32.ofInt sp).toNatClampNeg (Int32.ofInt n).toNatClampNeg).zipIdx.map fun z => ⟨ad x0 dst, (Int32.ofInt q).toNatClampNeg + z.2⟩) ls
    (hR.rep h0 hsame (by subst hs'; unfold cpx; rw [if_neg (by omega)]) (by subst hs'; unfold cpx; rw [if_neg (by omega)]) (by simp) oq (fun _ => by
      rw [htd]
      unfold COK
      rw [if_neg (by omega)]
      exact ⟨l1, by rw [hC1]; simp [Array.getElem?_setIfInBounds, hlt]⟩))
    ⟨by simp; exact hS.1, fun z g1 g2 => by
      rw [oq z (fun e => g2 (by rw [e]; exact XA_ad h0 hm))]
      exact hS.2.1 z g1 g2, fun z hz => by
      rcases List.mem_append.mp hz with h | h
      · exact hS.2.2 z h
      · obtain ⟨w, -, hw⟩ := List.mem_map.mp h
        rw [← hw]
        exact XA_ad h0 hm⟩ hv (by omega) (by omega)
  rw [hle.1, hle.2] at key
  obtain ⟨t2, a1, b1⟩ := key _ hheap X'
  exact ⟨t2, step t2 a1, b1⟩
/-- bytes -/
theorem gx_copyB (pc : Nat) {idx : Nat} {src sp dst q n : Int} {τ' : XS} (hts : tg b σ src = 102) (htd : tg b σ dst = 102) (h0 : 0 ≤ dst) (hm : ¬ (1438 ≤ dst ∧ dst < 1514))
    (hc : (0 ≤ i32 sp ∧ 0 ≤ i32 q ∧ 0 ≤ i32 n) ∧ i32 sp + i32 n ≤ ln b σ src ∧ i32 q + i32 n ≤ ln b σ dst) (hf : ∀ i : Nat, i < (i32 n).toNat → i8 (σ src (i32 sp + i)) = i32 (σ src (i32 sp + i)))
    (hl : Cond.methodLink own idx arraycopyName ∈ lw_all) (hna : Cond.native arraycopyName ∈ lw_all) (hstt : Cond.static arraycopyName ∈ lw_all) (hini : Cond.initialized "java/lang/System" ∈ lw_all)
    (hR1 : 1 ≤ dp) (hW : (st.map fun v => v.category).sum ≤ 8) (hs' : τ' = cpx σ src (i32 sp) dst (i32 q) (i32 n)) (hd : decode cc pc = .ok (.invokestatic idx, 3))
    (kk : GX l cc own nL ret mn xt x0 D b tv dp c0 s0 res τ' (pc + 3) lv st) : GX l cc own nL ret mn xt x0 D b tv dp c0 s0 res σ pc lv (J n :: J q :: .ref (ad x0 dst) :: J sp :: .ref (ad x0 src) :: st) :=
  gx_copy (t := 102) (ty := .byte) pc (by decide) (by decide) (fun _ _ _ _ _ => rfl) hts htd h0 hm hc.1.1 hc.1.2.1 hc.1.2.2 hc.2.1 hc.2.2 hl hna hstt hini (fun p s m args meth c hC H hR k1 cm h1 h2 vm' hal T hT i hi => ⟨by_fits (hf i (by omega)), trivial⟩) hR1 hW hs' hd kk
/-- references into an array of Objects -/
theorem gx_copyO (pc : Nat) {idx : Nat} {src sp dst q n : Int} {τ' : XS} (hts : tg b σ src = 110) (htd : tg b σ dst = 110) (h0 : 0 ≤ dst) (hm : ¬ (1438 ≤ dst ∧ dst < 1514))
    (hc : (0 ≤ i32 sp ∧ 0 ≤ i32 q ∧ 0 ≤ i32 n) ∧ i32 sp + i32 n ≤ ln b σ src ∧ i32 q + i32 n ≤ ln b σ dst) (hf : ∀ i : Nat, i < (i32 n).toNat → σ src (i32 sp + i) = -1 ∨ (0 < tg b σ (σ src (i32 sp + i)) ∧ tg b σ (σ src (i32 sp + i)) < 100))
    (hl : Cond.methodLink own idx arraycopyName ∈ lw_all) (hna : Cond.native arraycopyName ∈ lw_all) (hstt : Cond.static arraycopyName ∈ lw_all) (hini : Cond.initialized "java/lang/System" ∈ lw_all)
    (hR1 : 1 ≤ dp) (hW : (st.map fun v => v.category).sum ≤ 8) (hs' : τ' = cpx σ src (i32 sp) dst (i32 q) (i32 n)) (hd : decode cc pc = .ok (.invokestatic idx, 3))
    (kk : GX l cc own nL ret mn xt x0 D b tv dp c0 s0 res τ' (pc + 3) lv st) : GX l cc own nL ret mn xt x0 D b tv dp c0 s0 res σ pc lv (J n :: J q :: .ref (ad x0 dst) :: J sp :: .ref (ad x0 src) :: st) := by
  refine gx_copy (t := 110) (ty := .object "java/lang/Object") pc (by decide) (by decide) (fun _ _ _ _ _ => rfl) hts htd h0 hm hc.1.1 hc.1.2.1 hc.1.2.2 hc.2.1 hc.2.2 hl hna hstt hini (fun p s m args meth c hC H hR k1 cm h1 h2 vm' hal T hT i hi => ?_) hR1 hW hs' hd kk
  have hK := hC.2.2.2.2.2.2.2.1
  show fits _ (rf x0 _) = true ∧ (T.setVm vm').takes cm (rf x0 _)
  refine ⟨(rfOk rfl _).2, ?_⟩
  rcases hf i (by omega) with h | h
  · rw [h]; exact trivial
  · have hne : ¬ σ src (i32 sp + i) = -1 := (hR.at (t := tg b σ (σ src (i32 sp + i))) rfl h.1).2.1
    rw [rf_ne hne]
    obtain ⟨kA, comp, r1, r2, r3, -⟩ := (hK.2.1 (110, .object "java/lang/Object") (by decide)).2
    cases h1.symm.trans r1
    cases h2.symm.trans r2
    have hok := (hR.at (t := tg b σ (σ src (i32 sp + i))) rfl h.1).2.2
    unfold COK at hok
    rw [if_pos h.2] at hok
    obtain ⟨qq, hqq, cell, g1, g2, g3, -⟩ := hok
    obtain ⟨hfc, kC, hkC, hkind⟩ := (hK.1 _ _ hqq).2
    obtain ⟨kc, hkc, -⟩ := Vm.findClass_spec r3
    obtain ⟨kC', hkC', -⟩ := hal.2.2 _ _ hkC
    obtain ⟨kE', hkE', -⟩ := hal.2.2 _ _ hkc
    refine ⟨cell, (show T.heap[_]? = some cell by rw [hT]; exact g1), (fun z hz => by rw [g3] at hz; cases hz), ⟨kC', by rw [g2]; exact hkC'⟩, ⟨kE', hkE'⟩, ?_⟩
    show vm'.assignable _ _ = true
    rw [hal.assignable]
    exact vb_asgC (hK.2.2.1 _ (xcl_obj _ _ hqq) rfl) _ cell.cls r3 (by rw [g2]; exact hfc)
/-- a new array of references -/
theorem gx_anew (pc : Nat) {t idx : Nat} {C : String} {n : Int} {τ' : XS} (hp : 0 ≤ σ (-1) 0 ∧ 0 ≤ σ (-1) 1) (hty : (t, .object C) ∈ arrK) (ht : 100 ≤ t) (hev : ∀ c j : Int, evl b x0 t c j (-1) = .null) (hn : 0 ≤ i32 n ∧ i32 n < 1000000) (hl : Cond.classLink own idx C ∈ lw_all) (ho : ∀ U, XK x0 D U → va_AO C U) (hs' : τ' = nwx σ t (i32 n) (i32 n) (fun _ => -1)) (hd : decode cc pc = .ok (.anewarray idx, 3))
    (kk : GX l cc own nL ret mn xt x0 D b tv dp c0 s0 res τ' (pc + 3) lv (.ref (ad x0 (σ (-1) 0)) :: st)) : GX l cc own nL ret mn xt x0 D b tv dp c0 s0 res σ pc lv (J n :: st) := by
  have hle := nwx_le hp.1 hp.2 hn.1 hs'
  refine ⟨⟨by have := kk.1.1; omega, by have := kk.1.2; omega⟩, fun p e s m args below meth c hC H locs ls hR hS hl' z1 z2 => ?_⟩
  have hKs := hC.2.2.2.2.2.2.2.1
  have hsz : H.size = ad x0 (σ (-1) 0) := by rw [hR.2.2.2.2.1]; unfold ad nC; rw [if_pos hp.1]
  have g1 := kk.1.1
  have g2 := kk.1.2
  have iN := ix_of hn.1
  have hN : (Int32.ofInt n).toNatClampNeg = (i32 n).toNat := by omega
  have h0 : ¬ Int32.ofInt n < 0 := fun h => by have := (lt320 n).mp h; omega
  refine W.anew hC.1 hC.2.1 hC.2.2.2.2.1 (hC.2.2.2.2.2.1 _ hl) ((ho s hKs).use (A := args)) rfl hd rfl h0 (by omega) (by show _ ≤ nC res.2.2 - c0; omega) (by show _ ≤ nS res.2.2 - s0; omega) fun cA kA comp f1 f2 f3 f4 => ?_
  have hcA : cA = D.2.2.1 t := Option.some.inj (f1.symm.trans (x_nm (C := C) (hKs.2.1 _ hty).2 rfl))
  subst hcA
  rw [arrV_new, hN]
  have e9 : nC σ - c0 + 1 = nC τ' - c0 := by omega
  have e8 : nS σ - s0 + (i32 n).toNat = nS τ' - s0 := by omega
  rw [e9, e8]
  have o1 : ∀ q : Nat, q < H.size → (H.push (arrV (D.2.2.1 t) (i32 n).toNat fun _ => .null))[q]? = H[q]? := fun q hq => by rw [Array.getElem?_push, if_neg (by omega)]
  have hS' : va_S (XA x0) s.heap (H.push (arrV (D.2.2.1 t) (i32 n).toNat fun _ => .null)) locs := ⟨Nat.le_trans hS.1 (by simp), fun x h1 h2 => (o1 x (Nat.lt_of_lt_of_le h1 hS.1)).trans (hS.2.1 x h1 h2), hS.2.2⟩
  have key := kk.2 p e s m args below meth c hC _ locs ls (by
    subst hs'
    refine hR.new (by omega) hn.1 (by simp) o1 ?_
    unfold COK
    rw [if_neg (by omega)]
    refine ⟨hn.1, ?_⟩
    rw [← hsz, Array.getElem?_push, if_pos rfl]
    congr 1
    congr 1
    funext j
    have ef : nwx σ t (i32 n) (i32 n) (fun _ => -1) (σ (-1) 0) (j : Int) = -1 := by unfold nwx; rw [if_pos rfl, if_neg (by omega), if_neg (by omega)]
    rw [ef]
    exact (hev _ _).symm) hS' hl' (by omega) (by omega)
  rw [← hsz] at key
  exact key
/-- char array store -/
theorem gx_castC (pc : Nat) {ce i x : Int} {τ' : XS} (ht : tg b σ ce = 105) (h0 : 0 ≤ ce) (hm : ¬ (1438 ≤ ce ∧ ce < 1514)) (hi : ok (ln b σ ce) i) (hs' : τ' = ux σ ce (i32 i) (u16 x)) (hd : decode cc pc = .ok (.castore, 1))
    (kk : GX l cc own nL ret mn xt x0 D b tv dp c0 s0 res τ' (pc + 1) lv st) : GX l cc own nL ret mn xt x0 D b tv dp c0 s0 res σ pc lv (J x :: J i :: .ref (ad x0 ce) :: st) := by
  have hle := gx_le h0 hs'
  refine ⟨⟨by rw [← hle.1]; exact kk.1.1, by rw [← hle.2]; exact kk.1.2⟩, fun p e s m args below meth c hC H locs ls hR hS hl z1 z2 => ?_⟩
  refine W.cast hC.1 hC.2.1 (hR.arr ht (by decide)).2 (aK (by decide) hC.2.2.2.2.2.2.2.1 _ _) (fun q => by cases q) (by rw [arrV_size]; exact ok_inT hi) rfl rfl hd fun H' e1 e2 e3 => ?_
  have hu : narrow .char (.int (Int32.ofInt x)) = J (u16 x) := by
    have := u16_c x
    unfold J
    rw [← this]
    rfl
  rw [hu] at e1
  rw [← hle.1] at z1 ⊢
  rw [← hle.2] at z2 ⊢
  exact kk.2 p e s m args below meth c hC H' _ ls (gx_ast hR ht (by decide) h0 hi hs' e1 e2 e3) (hS.put e2 e3 (XA_ad h0 hm)) hl z1 z2
theorem gx_acmp_same (pc : Nat) {x y off : Int} {tgt : Nat} (hxy : x = y) (hd : decode cc pc = .ok (.if_acmp .ne off, 3)) (ht : (pc : Int) + off = (tgt : Int)) (k : GX l cc own nL ret mn xt x0 D b tv dp c0 s0 res σ (pc + 3) lv st) : GX l cc own nL ret mn xt x0 D b tv dp c0 s0 res σ pc lv (.ref (ad x0 y) :: .ref (ad x0 x) :: st) := by
  subst hxy
  exact ⟨k.1, fun p e s m args below meth c hC H locs ls hR hS hv z1 z2 => lv_acmp_ne (rx := some (ad x0 x)) (ry := some (ad x0 x)) hC.1 hC.2.1 hd ht (fun h => absurd rfl h) (fun _ => k.2 p e s m args below meth c hC H locs ls hR hS hv z1 z2)⟩
end Xcopy
theorem lw_in6 {a b c d e f : Cond} (h1 : a ∈ lw_all) (h2 : b ∈ lw_all) (h3 : c ∈ lw_all) (h4 : d ∈ lw_all) (h5 : e ∈ lw_all) (h6 : f ∈ lw_all) : ∀ w ∈ [a, b, c, d, e, f], w ∈ lw_all := by
  intro w hw
  simp only [List.mem_cons, List.not_mem_nil, or_false] at hw
  rcases hw with e | e | e | e | e | e <;> rw [e] <;> assumption
/-- a letter of a saying's or a verb's name -/
theorem gx_callNa {l : Launch} {nL x0 : Nat} {D : XD} {b : Bool} {tv dp c0 s0 : Nat} {res : RX} {σ : XS} {lv : List (Nat × Value)} {st : List Value} {cc : ByteArray} {own mn : String} {xt : List ExceptionTableEntry} {ret : Option FieldType} (pc n : Nat) {d1 idx : Nat} {ce : Int} {As rest st' : List Value} {z : Int × XS} (ht : isNa (tg b σ ce))
    (hM : XMet0 l yX9_letter cX9_letter 2 (some .int) d1 b x0 D (.ref (ad x0 ce) :: As) σ 1 z) (hl : Cond.methodLink own idx yX9_letter ∈ lw_all) (hn1 : n = 1) (hR : d1 + 1 ≤ dp ∧ 8 + (2 + 11) + 80 * d1 ≤ 80 * dp)
    (hn : As.length = n) (hst : st = As.reverse ++ .ref (ad x0 ce) :: rest) (hW : (rest.map fun v => v.category).sum ≤ 8) (hd : decode cc pc = .ok (.invokevirtual idx, 3)) (hst' : (tvx x0 1 z.1).toList ++ rest = st')
    (k : GX l cc own nL ret mn xt x0 D b tv dp c0 s0 res z.2 (pc + 3) lv st') : GX l cc own nL ret mn xt x0 D b tv dp c0 s0 res σ pc lv st := by
  subst hn1
  rcases ht with ht | ht
  · exact gx_callO pc 1 cw9 ht hM (lw_app (lw_in6 hl q1326 q1325 q1327 q1325 q167) (lw_meth q1329)) (by decide +kernel) hR hn hst hW hd hst' k
  · exact gx_callO pc 1 cw10 ht hM (lw_app (lw_in6 hl q1326 q1325 q1328 q1325 q167) (lw_meth q1329)) (by decide +kernel) hR hn hst hW hd hst' k
/-- selection of a private method of a class above the receiver's; that the class is no interface another selection tells -/
theorem x_selP {y y2 : MethodName} {C : String} {s : State} {args : Array Value} (hy : y.cls ≠ "java/lang/invoke/MethodHandle" ∧ y.cls ≠ "java/lang/invoke/VarHandle") (hc2 : y2.cls = y.cls) (hs2 : (Cond.selects C y2 y2).before args s = true) (hpriv : s.PrivateAt y) (hinst : (Cond.instanceMethod y).before args s = true) : (Cond.selects C y y).before args s = true := by
  obtain ⟨c, r, m2, hc, -, hn2, -, mk2, hk2, hi2⟩ := Cond.selects_spec hs2
  obtain ⟨mk, methM, hnamed, hmethM, -, -⟩ := Cond.instanceMethod_spec hinst
  have hfound : s.methodFound? y.cls y.name y.desc = some mk := State.methodFound?_of_named hnamed hy
  have hcls : mk.cls = m2.cls := Option.some.inj ((findClass_of_methodNamed hnamed).symm.trans (by rw [← hc2]; exact findClass_of_methodNamed hn2))
  have hsel : selectMethod {} s.vm c mk = .method mk := selectMethod_private hmethM (hpriv mk methM hnamed hmethM)
  simp only [Cond.before, Cond.holds, Cond.value, hc, hfound, hnamed, hsel, hcls, hk2]
  simp; exact hi2
theorem gx_callP {l : Launch} {nL x0 : Nat} {D : XD} {b : Bool} {tv dp c0 s0 : Nat} {res : RX} {σ : XS} {lv : List (Nat × Value)} {st : List Value} {cc : ByteArray} {own mn : String} {xt : List ExceptionTableEntry} {ret : Option FieldType} (pc n : Nat) {y y2 : MethodName} {bytes : ByteArray} {maxL d1 idx tv1 t : Nat} {ce : Int} {q : vw_C} {rt : Option FieldType} {As rest st' : List Value} {z : Int × XS} (hq : ClsW t q) (ht : tg b σ ce = t)
    (hM : XMet0 l y bytes maxL rt d1 b x0 D (.ref (ad x0 ce) :: As) σ tv1 z) (hl : Cond.methodLink own idx y ∈ lw_all) (hsm : Cond.sameMethod y.cls y.cls y.name y.desc ∈ lw_all) (hpr : ∀ U, XK x0 D U → U.PrivateAt y) (hin : Cond.instanceMethod y ∈ lw_all) (hini : Cond.initialized y.cls ∈ lw_all) (hc : Cond.code y bytes maxL rt ∈ lw_all) (hc2 : y2.cls = y.cls) (hs2 : Cond.selects q.1 y2 y2 ∈ lw_all)
    (hd1 : y.cls ≠ "java/lang/invoke/MethodHandle" ∧ y.cls ≠ "java/lang/invoke/VarHandle" ∧ (parseMethodDescriptor y.desc).map (fun d => d.parameters.length) = some n) (hR : d1 + 1 ≤ dp ∧ 8 + (maxL + 11) + 80 * d1 ≤ 80 * dp)
    (hn : As.length = n) (hst : st = As.reverse ++ .ref (ad x0 ce) :: rest) (hW : (rest.map fun v => v.category).sum ≤ 8) (hd : decode cc pc = .ok (.invokevirtual idx, 3)) (hst' : (tvx x0 tv1 z.1).toList ++ rest = st')
    (k : GX l cc own nL ret mn xt x0 D b tv dp c0 s0 res z.2 (pc + 3) lv st') : GX l cc own nL ret mn xt x0 D b tv dp c0 s0 res σ pc lv st :=
  gx_run pc hM.1 hst' (fun p e s m args below meth c hC H locs ls hRp hS hv g1 => va_runU (g := F0 m pc ls st) (rest := rest) ⟨hC.1, hC.2.1, hC.2.2.2.1, hC.2.2.2.2.1, hC.2.2.2.2.2.1⟩ hM.2
    (show va_CU (rmx dp (nC res.2.2 - c0) (nS res.2.2 - s0)) s args own q.1 y.cls idx y y bytes maxL rt (ws_ y bytes maxL rt) _ _ _ n from ⟨⟨rfl, rfl, hR.1, hR.2, pay_in hC.2.2.2.2.2.1 (lw_meth hc), List.mem_cons_self⟩, hC.2.2.2.2.2.1 _ hc, hC.2.2.2.2.2.1 _ hini, ⟨hd1.1, hd1.2.1⟩, (fun sig h => by have h2 := hd1.2.2; rw [h] at h2; exact (Option.some.inj h2).symm), hC.2.2.2.2.2.1 _ hl, hC.2.2.2.2.2.1 _ hsm, va_Decl.of (hC.2.2.2.2.2.1 _ hin) (hC.2.2.2.2.2.1 _ hc), x_selP ⟨hd1.1, hd1.2.1⟩ hc2 (hC.2.2.2.2.2.1 _ hs2) (hpr _ hC.2.2.2.2.2.2.2.1) (hC.2.2.2.2.2.1 _ hin), hC.2.2.2.2.2.1 _ hin⟩)
    ⟨xPre_blind, x_recv hC ht hq hRp, fun U hU hW => ⟨rfl, by rw [hU]; exact hRp, XK_warm hW (hS.F hU) hC.2.2.2.2.2.2.2.1⟩⟩ rfl hn hv.1 hst (lv_room hW) hd g1) k
theorem sm_ArrayList_modCount : ∀ (s : State) (args : Array Value), (∀ w ∈ lw_all, w.before args s = true) → ∀ x, s.fieldFound? "java/util/AbstractList" "modCount" "I" = some x → s.fieldFound? "java/util/ArrayList" "modCount" "I" = some x := by
  intro s args hts x hx
  have h := hts _ q223
  cases hr : s.fieldFound? "java/util/ArrayList" "modCount" "I" with
  | none => simp [Cond.before, Cond.holds, Cond.value, hr] at h
  | some y =>
    obtain ⟨c, k, i, f⟩ := y
    exact (Cond.sameField_spec hr h).symm.trans hx
