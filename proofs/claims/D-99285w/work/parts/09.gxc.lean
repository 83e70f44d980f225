/-! calls, entries, new cells of the system's walk -/
set_option maxRecDepth 100000
/-- a method that doesn't throw -/
def XMet0 (l : Launch) (y : MethodName) (cc : ByteArray) (nL : Nat) (ret : Option FieldType) (d : Nat) (b : Bool) (x0 : Nat) (D : XD) (vals : List Value) (τ : XS) (tv : Nat) (z : Int × XS) : Prop :=
  leX τ z.2 ∧ Met l y (ws_ y cc nL ret) (rmx d (nC z.2 - nC τ) (nS z.2 - nS τ)) (xPre b x0 D vals τ) (xPost b x0 D tv (0, z)) (nC z.2 - nC τ) (nS z.2 - nS τ) (XA x0)
section GXcalls
variable {p : Program} {l : Launch} {e : Env} {s : State} {m : MethodId} {args : Array Value} {below : List Frame} {meth : Method} {c : Code} {nL x0 : Nat} {D : XD} {b : Bool} {tv dp c0 s0 : Nat} {res : RX} {σ : XS} {lv : List (Nat × Value)} {st : List Value} {cc : ByteArray} {own mn : String} {xt : List ExceptionTableEntry} {ret : Option FieldType}
theorem xPre_blind {vals : List Value} : FrameBlind (xPre b x0 D vals σ) := fun _ U _ _ q => ⟨q.1, q.2.1, XK_same (u := U) rfl rfl q.2.2⟩
theorem gx_room {τ ρ : XS} (h1 : leX σ τ) (h2 : leX τ ρ) (z1 : c0 ≤ nC σ) (z2 : s0 ≤ nS σ) : ((nC σ - c0) + (nC τ - nC σ) ≤ nC ρ - c0 ∧ (nS σ - s0) + (nS τ - nS σ) ≤ nS ρ - s0) ∧ ((nC σ - c0) + (nC τ - nC σ) = nC τ - c0 ∧ (nS σ - s0) + (nS τ - nS σ) = nS τ - s0) ∧ c0 ≤ nC τ ∧ s0 ≤ nS τ := by
  obtain ⟨a, b⟩ := h1
  obtain ⟨c, d⟩ := h2
  omega
theorem leX_tr {τ ρ : XS} (h1 : leX σ τ) (h2 : leX τ ρ) : leX σ ρ := ⟨Nat.le_trans h1.1 h2.1, Nat.le_trans h1.2 h2.2⟩
/-- behind a call that has returned -/
theorem gx_run (pc : Nat) {z : Int × XS} {rest st' : List Value} {tv1 : Nat} {a : Array Value} (hle : leX σ z.2) (hst' : (tvx x0 tv1 z.1).toList ++ rest = st')
    (hrun : ∀ (p : Program) (e : Env) (s : State) (m : MethodId) (args : Array Value) (below : List Frame) (meth : Method) (c : Code), XC p s m args meth c cc own nL ret mn xt x0 D → ∀ (H : Heap) (locs : List Loc) (ls : Array Slot), XRp b x0 D σ H → va_S (XA x0) s.heap H locs → lv_has ls nL lv → (nC σ - c0) + (nC z.2 - nC σ) ≤ nC res.2.2 - c0 ∧ (nS σ - s0) + (nS z.2 - nS σ) ≤ nS res.2.2 - s0 →
      va_Run p l e (rmx dp (nC res.2.2 - c0) (nS res.2.2 - s0)) s m args below meth c H locs (nC σ - c0) (nS σ - s0) (nC z.2 - nC σ) (nS z.2 - nS σ) (F0 m pc ls st) rest (xPost b x0 D tv1 (0, z) a) (XA x0))
    (k : GX l cc own nL ret mn xt x0 D b tv dp c0 s0 res z.2 (pc + 3) lv st') : GX l cc own nL ret mn xt x0 D b tv dp c0 s0 res σ pc lv st := by
  refine ⟨leX_tr hle k.1, fun p e s m args below meth c hC H locs ls hR hS hv z1 z2 T hT X => ?_⟩
  subst hst'
  obtain ⟨g1, ⟨g2, g3⟩, g4, g5⟩ := gx_room hle k.1 z1 z2
  obtain ⟨v, st₀, t, T', L, h0, X', hL, e1, e2, ⟨-, hoc, hR1, hK1, hz, hk⟩, stp⟩ := hrun p e s m args below meth c hC H locs ls hR hS hv g1 T hT X
  cases hoc
  rw [h0] at hz hk
  rw [g2, g3] at X'
  obtain ⟨t2, a1, b1⟩ := k.2 p e s m args below meth c hC T'.heap (locs ++ L) ls (by rw [e1]; exact hR1) (gw_back hS (by rw [e1]; exact hz) (fun q h1 h2 => by rw [e1]; exact hk q h1 h2) hL) hv g4 g5 T' rfl X'
  exact ⟨t2, stp t2 a1, b1⟩
theorem gx_run5 (pc : Nat) {z : Int × XS} {rest st' : List Value} {tv1 : Nat} {a : Array Value} (hle : leX σ z.2) (hst' : (tvx x0 tv1 z.1).toList ++ rest = st')
    (hrun : ∀ (p : Program) (e : Env) (s : State) (m : MethodId) (args : Array Value) (below : List Frame) (meth : Method) (c : Code), XC p s m args meth c cc own nL ret mn xt x0 D → ∀ (H : Heap) (locs : List Loc) (ls : Array Slot), XRp b x0 D σ H → va_S (XA x0) s.heap H locs → lv_has ls nL lv → (nC σ - c0) + (nC z.2 - nC σ) ≤ nC res.2.2 - c0 ∧ (nS σ - s0) + (nS z.2 - nS σ) ≤ nS res.2.2 - s0 →
      va_Run5 p l e (rmx dp (nC res.2.2 - c0) (nS res.2.2 - s0)) s m args below meth c H locs (nC σ - c0) (nS σ - s0) (nC z.2 - nC σ) (nS z.2 - nS σ) (F0 m pc ls st) rest (xPost b x0 D tv1 (0, z) a) (XA x0))
    (k : GX l cc own nL ret mn xt x0 D b tv dp c0 s0 res z.2 (pc + 5) lv st') : GX l cc own nL ret mn xt x0 D b tv dp c0 s0 res σ pc lv st := by
  refine ⟨leX_tr hle k.1, fun p e s m args below meth c hC H locs ls hR hS hv z1 z2 T hT X => ?_⟩
  subst hst'
  obtain ⟨g1, ⟨g2, g3⟩, g4, g5⟩ := gx_room hle k.1 z1 z2
  obtain ⟨v, st₀, t, T', L, h0, X', hL, e1, e2, ⟨-, hoc, hR1, hK1, hz, hk⟩, stp⟩ := hrun p e s m args below meth c hC H locs ls hR hS hv g1 T hT X
  cases hoc
  rw [h0] at hz hk
  rw [g2, g3] at X'
  obtain ⟨t2, a1, b1⟩ := k.2 p e s m args below meth c hC T'.heap (locs ++ L) ls (by rw [e1]; exact hR1) (gw_back hS (by rw [e1]; exact hz) (fun q h1 h2 => by rw [e1]; exact hk q h1 h2) hL) hv g4 g5 T' rfl X'
  exact ⟨t2, stp t2 a1, b1⟩
theorem x_recv (hC : XC p s m args meth c cc own nL ret mn xt x0 D) {ce : Int} {t : Nat} {q : vw_C} (ht : tg b σ ce = t) (hq : ClsW t q) {H : Heap} (hR : XRp b x0 D σ H) : isObj s q.1 (ad x0 ce) H := by
  obtain ⟨h1, h2, h3, -⟩ := hq
  obtain ⟨cell, q1, q2, q3, q4⟩ := hR.obj ht ⟨h1, h2⟩ h3
  obtain ⟨-, hfc, -⟩ := hC.2.2.2.2.2.2.2.1.1 _ _ h3
  exact ⟨cell, q1, by rw [q3]; rfl, by rw [q2]; exact hfc⟩
theorem gx_callV (pc n : Nat) {y : MethodName} {bytes : ByteArray} {maxL d1 idx tv1 t : Nat} {ce : Int} {q : vw_C} {rt : Option FieldType} {As rest st' : List Value} {z : Int × XS} (hq : ClsW t q) (ht : tg b σ ce = t)
    (hM : XMet0 l y bytes maxL rt d1 b x0 D (.ref (ad x0 ce) :: As) σ tv1 z) (hw : GoodIn lw_all (wsV own idx q.1 y (ws_ y bytes maxL rt)))
    (hd1 : y.cls = q.1 ∧ y.cls ≠ "java/lang/invoke/MethodHandle" ∧ y.cls ≠ "java/lang/invoke/VarHandle" ∧ (parseMethodDescriptor y.desc).map (fun d => d.parameters.length) = some n) (hR : d1 + 1 ≤ dp ∧ 8 + (maxL + 11) + 80 * d1 ≤ 80 * dp)
    (hn : As.length = n) (hst : st = As.reverse ++ .ref (ad x0 ce) :: rest) (hW : (rest.map fun v => v.category).sum ≤ 8) (hd : decode cc pc = .ok (.invokevirtual idx, 3)) (hst' : (tvx x0 tv1 z.1).toList ++ rest = st')
    (k : GX l cc own nL ret mn xt x0 D b tv dp c0 s0 res z.2 (pc + 3) lv st') : GX l cc own nL ret mn xt x0 D b tv dp c0 s0 res σ pc lv st :=
  gx_run pc hM.1 hst' (fun p e s m args below meth c hC H locs ls hRp hS hv g1 => va_runV (g := F0 m pc ls st) (rest := rest) ⟨hC.1, hC.2.1, hC.2.2.2.1, hC.2.2.2.2.1, hC.2.2.2.2.2.1⟩ hM.2 (cwV n hC.2.2.2.2.2.1 hw rfl rfl rfl hd1 hR) ⟨xPre_blind, x_recv hC ht hq hRp, fun U hU hW => ⟨rfl, by rw [hU]; exact hRp, XK_warm hW (hS.F hU) hC.2.2.2.2.2.2.2.1⟩⟩ rfl hn hv.1 hst (lv_room hW) hd g1) k
theorem gx_callS (pc n : Nat) {y : MethodName} {bytes : ByteArray} {maxL d1 idx tv1 : Nat} {rt : Option FieldType} {As rest st' : List Value} {z : Int × XS}
    (hM : XMet0 l y bytes maxL rt d1 b x0 D As σ tv1 z) (hw : GoodIn lw_all (va_wsS own idx y (ws_ y bytes maxL rt)))
    (hd1 : y.cls ≠ "java/lang/invoke/MethodHandle" ∧ y.cls ≠ "java/lang/invoke/VarHandle" ∧ (parseMethodDescriptor y.desc).map (fun d => d.parameters.length) = some n) (hR : d1 + 1 ≤ dp ∧ 8 + (maxL + 11) + 80 * d1 ≤ 80 * dp)
    (hn : As.length = n) (hst : st = As.reverse ++ rest) (hW : (rest.map fun v => v.category).sum ≤ 8) (hd : decode cc pc = .ok (.invokestatic idx, 3)) (hst' : (tvx x0 tv1 z.1).toList ++ rest = st')
    (k : GX l cc own nL ret mn xt x0 D b tv dp c0 s0 res z.2 (pc + 3) lv st') : GX l cc own nL ret mn xt x0 D b tv dp c0 s0 res σ pc lv st :=
  gx_run pc hM.1 hst' (fun p e s m args below meth c hC H locs ls hRp hS hv g1 => va_runS (g := F0 m pc ls st) (rest := rest) ⟨hC.1, hC.2.1, hC.2.2.2.1, hC.2.2.2.2.1, hC.2.2.2.2.2.1⟩ hM.2 (va_cwS n hC.2.2.2.2.2.1 hw rfl rfl rfl hd1 hR) ⟨xPre_blind, fun U hU hW => ⟨rfl, by rw [hU]; exact hRp, XK_warm hW (hS.F hU) hC.2.2.2.2.2.2.2.1⟩⟩ rfl hn hv.1 hst (lv_room hW) hd g1) k
theorem gx_callI (pc n : Nat) {y : MethodName} {bytes : ByteArray} {maxL d1 idx : Nat} {ce : Int} {As rest : List Value} {z : Int × XS}
    (hM : XMet0 l y bytes maxL none d1 b x0 D (.ref (ad x0 ce) :: As) σ 0 z) (hc : Cond.code y bytes maxL none ∈ lw_all) (hini : Cond.initialized y.cls ∈ lw_all) (hlk : Cond.methodLink own idx y ∈ lw_all) (hins : Cond.instanceMethod y ∈ lw_all) (hy1 : y.name = "<init>")
    (hd1 : y.cls ≠ "java/lang/invoke/MethodHandle" ∧ y.cls ≠ "java/lang/invoke/VarHandle" ∧ (parseMethodDescriptor y.desc).map (fun d => d.parameters.length) = some n) (hR : d1 + 1 ≤ dp ∧ 8 + (maxL + 11) + 80 * d1 ≤ 80 * dp)
    (hn : As.length = n) (hst : st = As.reverse ++ .ref (ad x0 ce) :: rest) (hW : (rest.map fun v => v.category).sum ≤ 8) (hd : decode cc pc = .ok (.invokespecial idx, 3))
    (k : GX l cc own nL ret mn xt x0 D b tv dp c0 s0 res z.2 (pc + 3) lv rest) : GX l cc own nL ret mn xt x0 D b tv dp c0 s0 res σ pc lv st :=
  gx_run (tv1 := 0) pc hM.1 rfl (fun p e s m args below meth c hC H locs ls hRp hS hv g1 => va_runI (g := F0 m pc ls st) (rest := rest) ⟨hC.1, hC.2.1, hC.2.2.2.1, hC.2.2.2.2.1, hC.2.2.2.2.2.1⟩ hM.2 (cwI n hC.2.2.2.2.2.1 (lw_meth hc) rfl rfl rfl (hC.2.2.2.2.2.1 _ hini) (hC.2.2.2.2.2.1 _ hlk) (hC.2.2.2.2.2.1 _ hins) hy1 hd1 hR) ⟨xPre_blind, fun U hU hW => ⟨rfl, by rw [hU]; exact hRp, XK_warm hW (hS.F hU) hC.2.2.2.2.2.2.2.1⟩⟩ rfl hn hv.1 hst (lv_room hW) hd g1) k
/-- nest mates -/
theorem x_cnB (hC : XC p s m args meth c cc own nL ret mn xt x0 D) {y : MethodName} {host : String} {bytes : ByteArray} {maxL d1 idx n mc ms nc ns : Nat} {rt : Option FieldType} (hc : Cond.code y bytes maxL rt ∈ lw_all) (hini : Cond.initialized y.cls ∈ lw_all) (hlk : Cond.methodLinkNest own idx y host ∈ lw_tbl)
    (hd1 : y.cls ≠ "java/lang/invoke/MethodHandle" ∧ y.cls ≠ "java/lang/invoke/VarHandle" ∧ (parseMethodDescriptor y.desc).map (fun d => d.parameters.length) = some n) (hR : d1 + 1 ≤ dp ∧ 8 + (maxL + 11) + 80 * d1 ≤ 80 * dp) : va_CN (rmx dp nc ns) s args own idx y host bytes maxL rt (ws_ y bytes maxL rt) (rmx d1 mc ms) mc ms n :=
  va_cnB n hC.2.2.2.2.2.1 (lw_meth hc) rfl rfl rfl (hC.2.2.2.2.2.2.2.1.2.2.1 _ hlk rfl) (hC.2.2.2.2.2.1 _ hini) hd1 hR
theorem gx_callVN (pc n : Nat) {y : MethodName} {host : String} {bytes : ByteArray} {maxL d1 idx tv1 t : Nat} {ce : Int} {q : vw_C} {rt : Option FieldType} {As rest st' : List Value} {z : Int × XS} (hq : ClsW t q) (ht : tg b σ ce = t)
    (hM : XMet0 l y bytes maxL rt d1 b x0 D (.ref (ad x0 ce) :: As) σ tv1 z) (hc : Cond.code y bytes maxL rt ∈ lw_all) (hini : Cond.initialized y.cls ∈ lw_all) (hlk : Cond.methodLinkNest own idx y host ∈ lw_tbl) (hins : Cond.instanceMethod y ∈ lw_all) (hsel : Cond.selects q.1 y y ∈ lw_all)
    (hd1 : y.cls ≠ "java/lang/invoke/MethodHandle" ∧ y.cls ≠ "java/lang/invoke/VarHandle" ∧ (parseMethodDescriptor y.desc).map (fun d => d.parameters.length) = some n) (hR : d1 + 1 ≤ dp ∧ 8 + (maxL + 11) + 80 * d1 ≤ 80 * dp)
    (hn : As.length = n) (hst : st = As.reverse ++ .ref (ad x0 ce) :: rest) (hW : (rest.map fun v => v.category).sum ≤ 8) (hd : decode cc pc = .ok (.invokevirtual idx, 3)) (hst' : (tvx x0 tv1 z.1).toList ++ rest = st')
    (k : GX l cc own nL ret mn xt x0 D b tv dp c0 s0 res z.2 (pc + 3) lv st') : GX l cc own nL ret mn xt x0 D b tv dp c0 s0 res σ pc lv st :=
  gx_run pc hM.1 hst' (fun p e s m args below meth c hC H locs ls hRp hS hv g1 => va_runVN (g := F0 m pc ls st) (rest := rest) ⟨hC.1, hC.2.1, hC.2.2.2.1, hC.2.2.2.2.1, hC.2.2.2.2.2.1⟩ hM.2 ⟨x_cnB hC hc hini hlk hd1 hR, hC.2.2.2.2.2.1 _ hins, hC.2.2.2.2.2.1 _ hsel⟩ ⟨xPre_blind, x_recv hC ht hq hRp, fun U hU hW => ⟨rfl, by rw [hU]; exact hRp, XK_warm hW (hS.F hU) hC.2.2.2.2.2.2.2.1⟩⟩ rfl hn hv.1 hst (lv_room hW) hd g1) k
theorem gx_callSN (pc n : Nat) {y : MethodName} {host : String} {bytes : ByteArray} {maxL d1 idx tv1 : Nat} {rt : Option FieldType} {As rest st' : List Value} {z : Int × XS}
    (hM : XMet0 l y bytes maxL rt d1 b x0 D As σ tv1 z) (hc : Cond.code y bytes maxL rt ∈ lw_all) (hini : Cond.initialized y.cls ∈ lw_all) (hlk : Cond.methodLinkNest own idx y host ∈ lw_tbl) (hstt : Cond.static y ∈ lw_all)
    (hd1 : y.cls ≠ "java/lang/invoke/MethodHandle" ∧ y.cls ≠ "java/lang/invoke/VarHandle" ∧ (parseMethodDescriptor y.desc).map (fun d => d.parameters.length) = some n) (hR : d1 + 1 ≤ dp ∧ 8 + (maxL + 11) + 80 * d1 ≤ 80 * dp)
    (hn : As.length = n) (hst : st = As.reverse ++ rest) (hW : (rest.map fun v => v.category).sum ≤ 8) (hd : decode cc pc = .ok (.invokestatic idx, 3)) (hst' : (tvx x0 tv1 z.1).toList ++ rest = st')
    (k : GX l cc own nL ret mn xt x0 D b tv dp c0 s0 res z.2 (pc + 3) lv st') : GX l cc own nL ret mn xt x0 D b tv dp c0 s0 res σ pc lv st :=
  gx_run pc hM.1 hst' (fun p e s m args below meth c hC H locs ls hRp hS hv g1 => va_runSN (g := F0 m pc ls st) (rest := rest) ⟨hC.1, hC.2.1, hC.2.2.2.1, hC.2.2.2.2.1, hC.2.2.2.2.2.1⟩ hM.2 ⟨x_cnB hC hc hini hlk hd1 hR, hC.2.2.2.2.2.1 _ hstt, trivial⟩ ⟨xPre_blind, fun U hU hW => ⟨rfl, by rw [hU]; exact hRp, XK_warm hW (hS.F hU) hC.2.2.2.2.2.2.2.1⟩⟩ rfl hn hv.1 hst (lv_room hW) hd g1) k
theorem gx_callIN (pc n : Nat) {y : MethodName} {host : String} {bytes : ByteArray} {maxL d1 idx : Nat} {ce : Int} {As rest : List Value} {z : Int × XS}
    (hM : XMet0 l y bytes maxL none d1 b x0 D (.ref (ad x0 ce) :: As) σ 0 z) (hc : Cond.code y bytes maxL none ∈ lw_all) (hini : Cond.initialized y.cls ∈ lw_all) (hlk : Cond.methodLinkNest own idx y host ∈ lw_tbl) (hins : Cond.instanceMethod y ∈ lw_all) (hy1 : y.name = "<init>")
    (hd1 : y.cls ≠ "java/lang/invoke/MethodHandle" ∧ y.cls ≠ "java/lang/invoke/VarHandle" ∧ (parseMethodDescriptor y.desc).map (fun d => d.parameters.length) = some n) (hR : d1 + 1 ≤ dp ∧ 8 + (maxL + 11) + 80 * d1 ≤ 80 * dp)
    (hn : As.length = n) (hst : st = As.reverse ++ .ref (ad x0 ce) :: rest) (hW : (rest.map fun v => v.category).sum ≤ 8) (hd : decode cc pc = .ok (.invokespecial idx, 3))
    (k : GX l cc own nL ret mn xt x0 D b tv dp c0 s0 res z.2 (pc + 3) lv rest) : GX l cc own nL ret mn xt x0 D b tv dp c0 s0 res σ pc lv st :=
  gx_run (tv1 := 0) pc hM.1 rfl (fun p e s m args below meth c hC H locs ls hRp hS hv g1 => va_runIN (g := F0 m pc ls st) (rest := rest) ⟨hC.1, hC.2.1, hC.2.2.2.1, hC.2.2.2.2.1, hC.2.2.2.2.2.1⟩ hM.2 ⟨x_cnB hC hc hini hlk hd1 hR, hy1, hC.2.2.2.2.2.1 _ hins⟩ ⟨xPre_blind, fun U hU hW => ⟨rfl, by rw [hU]; exact hRp, XK_warm hW (hS.F hU) hC.2.2.2.2.2.2.2.1⟩⟩ rfl hn hv.1 hst (lv_room hW) hd g1) k
/-- a call whose named method is abstract, or of a class above: x named, y taken by the receiver's class -/
theorem gx_callA (pc n : Nat) {x y : MethodName} {bytes : ByteArray} {maxL d1 idx tv1 t : Nat} {ce : Int} {q : vw_C} {rt : Option FieldType} {As rest st' : List Value} {z : Int × XS} (hq : ClsW t q) (ht : tg b σ ce = t)
    (hM : XMet0 l y bytes maxL rt d1 b x0 D (.ref (ad x0 ce) :: As) σ tv1 z) (hw : GoodIn lw_all (va_wsU own idx q.1 x.cls x y (ws_ y bytes maxL rt))) (hz : Cond.declares x ∈ lw_tbl)
    (hd1 : x.cls ≠ "java/lang/invoke/MethodHandle" ∧ x.cls ≠ "java/lang/invoke/VarHandle" ∧ (parseMethodDescriptor x.desc).map (fun d => d.parameters.length) = some n) (hR : d1 + 1 ≤ dp ∧ 8 + (maxL + 11) + 80 * d1 ≤ 80 * dp)
    (hn : As.length = n) (hst : st = As.reverse ++ .ref (ad x0 ce) :: rest) (hW : (rest.map fun v => v.category).sum ≤ 8) (hd : decode cc pc = .ok (.invokevirtual idx, 3)) (hst' : (tvx x0 tv1 z.1).toList ++ rest = st')
    (k : GX l cc own nL ret mn xt x0 D b tv dp c0 s0 res z.2 (pc + 3) lv st') : GX l cc own nL ret mn xt x0 D b tv dp c0 s0 res σ pc lv st :=
  gx_run pc hM.1 hst' (fun p e s m args below meth c hC H locs ls hRp hS hv g1 => va_runU (g := F0 m pc ls st) (rest := rest) ⟨hC.1, hC.2.1, hC.2.2.2.1, hC.2.2.2.2.1, hC.2.2.2.2.2.1⟩ hM.2 (va_cwA n hC.2.2.2.2.2.1 hw rfl rfl rfl (hC.2.2.2.2.2.2.2.1.2.2.1 _ hz rfl) hd1 hR) ⟨xPre_blind, x_recv hC ht hq hRp, fun U hU hW => ⟨rfl, by rw [hU]; exact hRp, XK_warm hW (hS.F hU) hC.2.2.2.2.2.2.2.1⟩⟩ rfl hn hv.1 hst (lv_room hW) hd g1) k
/-- a list's method by its interface -/
theorem gx_callF (pc n : Nat) {x y : MethodName} {bytes : ByteArray} {maxL d1 idx count tv1 : Nat} {ce : Int} {q : vw_C} {rt : Option FieldType} {As rest st' : List Value} {z : Int × XS} (hq : ClsW 21 q) (hq1 : q.1 = RJ2) (ht : tg b σ ce = 21)
    (hM : XMet0 l y bytes maxL rt d1 b x0 D (.ref (ad x0 ce) :: As) σ tv1 z) (hw : GoodIn lw_all (va_wsF own idx RJ2 x y (ws_ y bytes maxL rt))) (hf : (x, y) ∈ xfw)
    (hd1 : x.cls ≠ "java/lang/invoke/MethodHandle" ∧ x.cls ≠ "java/lang/invoke/VarHandle" ∧ (parseMethodDescriptor x.desc).map (fun d => d.parameters.length) = some n) (hR : d1 + 1 ≤ dp ∧ 8 + (maxL + 11) + 80 * d1 ≤ 80 * dp)
    (hn : As.length = n) (hst : st = As.reverse ++ .ref (ad x0 ce) :: rest) (hW : (rest.map fun v => v.category).sum ≤ 8) (hd : decode cc pc = .ok (.invokeinterface idx count, 5)) (hst' : (tvx x0 tv1 z.1).toList ++ rest = st')
    (k : GX l cc own nL ret mn xt x0 D b tv dp c0 s0 res z.2 (pc + 5) lv st') : GX l cc own nL ret mn xt x0 D b tv dp c0 s0 res σ pc lv st :=
  gx_run5 pc hM.1 hst' (fun p e s m args below meth c hC H locs ls hRp hS hv g1 => va_runF (g := F0 m pc ls st) (rest := rest) (C := RJ2) (cC := D.1 20) (by
      have := (hC.2.2.2.2.2.2.2.1.1 _ _ hq.2.2.1).2
      rw [hq1] at this
      exact this) ⟨hC.1, hC.2.1, hC.2.2.2.1, hC.2.2.2.2.1, hC.2.2.2.2.2.1⟩ hM.2 (va_cwF n hC.2.2.2.2.2.1 hw rfl rfl rfl (hC.2.2.2.2.2.2.2.1.2.2.2.1 _ hf) hd1 hR) ⟨xPre_blind, by have := x_recv hC ht hq hRp; rw [hq1] at this; exact this, fun U hU hW => ⟨rfl, by rw [hU]; exact hRp, XK_warm hW (hS.F hU) hC.2.2.2.2.2.2.2.1⟩⟩ rfl hn hv.1 hst (lv_room hW) hd g1) k
theorem gx_objInit (pc : Nat) {idx : Nat} {a : Nat} (hl : Cond.methodLink own idx Lib.objectInit ∈ lw_all) (hi : Cond.instanceMethod Lib.objectInit ∈ lw_all) (hc : Cond.code Lib.objectInit ⟨#[0xb1]⟩ 1 none ∈ lw_all) (hd : decode cc pc = .ok (.invokespecial idx, 3)) (hR : 1 ≤ dp) (hW : (st.map fun v => v.category).sum ≤ 8)
    (k : GX l cc own nL ret mn xt x0 D b tv dp c0 s0 res σ (pc + 3) lv st) : GX l cc own nL ret mn xt x0 D b tv dp c0 s0 res σ pc lv (.ref a :: st) :=
  ⟨k.1, fun p e s m args below meth c hC H locs ls hRp hS hv z1 z2 => W.objInit hC.1 hC.2.1 hC.2.2.2.2.1 (hC.2.2.2.2.2.1 _ hl) (hC.2.2.2.2.2.1 _ hi) (hC.2.2.2.2.2.1 _ hc) rfl (hv.1.trans hC.2.2.2.1.symm) rfl hd hR (by
    have := lv_room (m := m) (pc := pc) (ls := ls) (rest := .ref a :: st) hW
    have h2 : (rmx dp (nC res.2.2 - c0) (nS res.2.2 - s0)).locals = 80 * dp := rfl
    rw [h2]
    omega) (k.2 p e s m args below meth c hC H locs ls hRp hS hv z1 z2)⟩
theorem gx_cast (pc : Nat) {t idx : Nat} {ce : Int} {q : vw_C} {nm : String} (hq : ClsW t q) (ht : tg b σ ce = t) (hl : Cond.classLink own idx nm ∈ lw_all) (hca : Cond.castable q.1 nm ∈ lw_tbl) (hd : decode cc pc = .ok (.checkcast idx, 3))
    (k : GX l cc own nL ret mn xt x0 D b tv dp c0 s0 res σ (pc + 3) lv (.ref (ad x0 ce) :: st)) : GX l cc own nL ret mn xt x0 D b tv dp c0 s0 res σ pc lv (.ref (ad x0 ce) :: st) :=
  ⟨k.1, fun p e s m args below meth c hC H locs ls hRp hS hv z1 z2 => va_castY hC.1 hC.2.1 hC.2.2.2.2.1 (hC.2.2.2.2.2.1 _ hl) (hC.2.2.2.2.2.2.2.1.2.2.1 _ hca rfl) (x_recv hC ht hq hRp) hd (k.2 p e s m args below meth c hC H locs ls hRp hS hv z1 z2)⟩
end GXcalls
section GXthrow
variable {l : Launch} {nL x0 : Nat} {D : XD} {b : Bool} {tv dp c0 s0 : Nat} {res : RX} {σ : XS} {lv : List (Nat × Value)} {st : List Value} {cc : ByteArray} {own mn : String} {xt : List ExceptionTableEntry} {ret : Option FieldType}
/-- a call of a method that may throw: here it returns -/
theorem gx_callT (pc n : Nat) {y : MethodName} {bytes : ByteArray} {maxL d1 idx tv1 t : Nat} {ce : Int} {q : vw_C} {rt : Option FieldType} {As rest st' : List Value} {z : RX} (hq : ClsW t q) (ht : tg b σ ce = t) (hz : z.1 = 0)
    (hM : XMet l y bytes maxL rt d1 b x0 D (.ref (ad x0 ce) :: As) σ tv1 z) (hw : GoodIn lw_all (wsV own idx q.1 y (ws_ y bytes maxL rt)))
    (hd1 : y.cls = q.1 ∧ y.cls ≠ "java/lang/invoke/MethodHandle" ∧ y.cls ≠ "java/lang/invoke/VarHandle" ∧ (parseMethodDescriptor y.desc).map (fun d => d.parameters.length) = some n) (hR : d1 + 1 ≤ dp ∧ 8 + (maxL + 11) + 80 * d1 ≤ 80 * dp)
    (hn : As.length = n) (hst : st = As.reverse ++ .ref (ad x0 ce) :: rest) (hW : (rest.map fun v => v.category).sum ≤ 8) (hd : decode cc pc = .ok (.invokevirtual idx, 3)) (hst' : (tvx x0 tv1 z.2.1).toList ++ rest = st')
    (k : GX l cc own nL ret mn xt x0 D b tv dp c0 s0 res z.2.2 (pc + 3) lv st') : GX l cc own nL ret mn xt x0 D b tv dp c0 s0 res σ pc lv st := by
  refine ⟨leX_tr hM.1 k.1, fun p e s m args below meth c hC H locs ls hR' hS hv z1 z2 T hT X => ?_⟩
  subst hst'
  obtain ⟨g1, ⟨g2, g3⟩, g4, g5⟩ := gx_room hM.1 k.1 z1 z2
  rcases vq_runV (R := rmx dp (nC res.2.2 - c0) (nS res.2.2 - s0)) (g := F0 m pc ls st) (rest := rest) ⟨hC.1, hC.2.1, hC.2.2.2.1, hC.2.2.2.2.1, hC.2.2.2.2.2.1⟩ hM.2 (cwV (R := rmx dp (nC res.2.2 - c0) (nS res.2.2 - s0)) n hC.2.2.2.2.2.1 hw rfl rfl rfl hd1 hR) ⟨xPre_blind, x_recv hC ht hq hR', fun U hU hW => ⟨rfl, by rw [hU]; exact hR', XK_warm hW (hS.F hU) hC.2.2.2.2.2.2.2.1⟩⟩ rfl hn hv.1 hst (lv_room hW) hd g1 T hT X with ⟨v, st₀, t9, T', L, h0, X', hL, e1, e2, ⟨-, hoc, hR1, hK1, hz9, hk⟩, stp⟩ | ⟨q9, st₀, t9, T', L, E, ce9, h0, X', hL, e1, e2, ⟨hx, -⟩, -⟩
  · cases hoc
    rw [h0] at hz9 hk
    rw [g2, g3] at X'
    obtain ⟨t2, a1, b1⟩ := k.2 p e s m args below meth c hC T'.heap (locs ++ L) ls (by rw [e1]; exact hR1) (gw_back hS (by rw [e1]; exact hz9) (fun q h1 h2 => by rw [e1]; exact hk q h1 h2) hL) hv g4 g5 T' rfl X'
    exact ⟨t2, stp t2 a1, b1⟩
  · rw [hz] at hx
    exact absurd hx (by decide)
/-- .. here it throws, and nothing here catches it -/
theorem gx_callTX (pc n : Nat) {y : MethodName} {bytes : ByteArray} {maxL d1 idx tv1 t : Nat} {ce : Int} {q : vw_C} {rt : Option FieldType} {As rest : List Value} {z : RX} (hno : xt = []) (hq : ClsW t q) (ht : tg b σ ce = t) (hz : ¬ z.1 = 0)
    (hM : XMet l y bytes maxL rt d1 b x0 D (.ref (ad x0 ce) :: As) σ tv1 z) (hw : GoodIn lw_all (wsV own idx q.1 y (ws_ y bytes maxL rt)))
    (hd1 : y.cls = q.1 ∧ y.cls ≠ "java/lang/invoke/MethodHandle" ∧ y.cls ≠ "java/lang/invoke/VarHandle" ∧ (parseMethodDescriptor y.desc).map (fun d => d.parameters.length) = some n) (hR : d1 + 1 ≤ dp ∧ 8 + (maxL + 11) + 80 * d1 ≤ 80 * dp)
    (hn : As.length = n) (hst : st = As.reverse ++ .ref (ad x0 ce) :: rest) (hW : (rest.map fun v => v.category).sum ≤ 8) (hd : decode cc pc = .ok (.invokevirtual idx, 3)) (h : some ((1, 0, z.2.2) : RX) = some res) : GX l cc own nL ret mn xt x0 D b tv dp c0 s0 res σ pc lv st := by
  cases h
  refine ⟨hM.1, fun p e s m args below meth c hC H locs ls hR' hS hv z1 z2 T hT X => ?_⟩
  obtain ⟨g1, ⟨g2, g3⟩, g4, g5⟩ := gx_room (ρ := z.2.2) hM.1 (leX_rf _) z1 z2
  rcases vq_runV (R := rmx dp (nC z.2.2 - c0) (nS z.2.2 - s0)) (g := F0 m pc ls st) (rest := rest) ⟨hC.1, hC.2.1, hC.2.2.2.1, hC.2.2.2.2.1, hC.2.2.2.2.2.1⟩ hM.2 (cwV (R := rmx dp (nC z.2.2 - c0) (nS z.2.2 - s0)) n hC.2.2.2.2.2.1 hw rfl rfl rfl hd1 hR) ⟨xPre_blind, x_recv hC ht hq hR', fun U hU hW => ⟨rfl, by rw [hU]; exact hR', XK_warm hW (hS.F hU) hC.2.2.2.2.2.2.2.1⟩⟩ rfl hn hv.1 hst (lv_room hW) hd g1 T hT X with ⟨v, st₀, t9, T', L, h0, X', hL, e1, e2, ⟨hx, -⟩, -⟩ | ⟨q9, st₀, t9, T', L, E, ce9, h0, X', hL, e1, e2, ⟨-, hqq, hE, hR1, hK1, hz9, hk⟩, hce, hcv, hcl, stp⟩
  · exact absurd hx hz
  · rw [h0] at hz9 hk
    rw [g2, g3] at X'
    have hS' := gw_back hS (H1 := T'.heap) (by rw [e1]; exact hz9) (fun q h1 h2 => by rw [e1]; exact hk q h1 h2) hL
    obtain ⟨t2, a1, b1⟩ := vq_out (p := p) (l := l) (e := e) (R := rmx dp (nC z.2.2 - c0) (nS z.2.2 - s0)) (s := s) (m := m) (args := args) (below := below) (meth := meth) (c := c) (H := T'.heap) (locs := locs ++ L) (cells := nC z.2.2 - c0) (slots := nS z.2.2 - s0) (ls := ls) (rest := rest) (pc := pc) (E := E) (ce := ce9) (q := q9) (mc := nC z.2.2 - c0) (ms := nS z.2.2 - s0) (free := XA x0) (Qc := xPost b x0 D tv (1, 0, z.2.2)) (XC := xExc b x0 D (1, 0, z.2.2)) (fun x hx => by rw [hC.2.2.2.2.2.2.2.2.2, hno] at hx; cases hx) hC.2.2.2.2.2.2.1 (by rw [e1]; exact hce) hcv hcl (fun t ht ha => ⟨rfl, hqq, hE, by rw [ht, e1]; exact hR1, XK_warm ha (hS'.F ht) hC.2.2.2.2.2.2.2.1, hS'.F ht⟩) hS'.2.2 (Nat.le_refl _) (Nat.le_refl _) T' rfl X'
    exact ⟨t2, stp.trans a1, b1⟩
/-- athrow of the reader's fault -/
theorem gx_athrow (pc : Nat) (hno : xt = []) (ht : tg b σ 8 = 4) (hq : ClsW 4 (RX3, TX3, 8)) (hd : decode cc pc = .ok (.athrow, 1)) (h : some ((1, 0, σ) : RX) = some res) : GX l cc own nL ret mn xt x0 D b tv dp c0 s0 res σ pc lv (.ref (ad x0 8) :: st) := by
  cases h
  refine ⟨leX_rf _, fun p e s m args below meth c hC H locs ls hR hS hv z1 z2 => ?_⟩
  obtain ⟨cell, q1, q2, q3⟩ := hR.obj ht ⟨hq.1, hq.2.1⟩ hq.2.2.1
  obtain ⟨-, hfc, -⟩ := hC.2.2.2.2.2.2.2.1.1 _ _ hq.2.2.1
  exact vq_athrow hC.1 hC.2.1 hd (vq_out (E := RX3) (ce := cell) (fun x hx => by rw [hC.2.2.2.2.2.2.2.2.2, hno] at hx; cases hx) hC.2.2.2.2.2.2.1 q1 q3.1 (by rw [q2]; exact hfc) (fun t ht' ha => ⟨rfl, rfl, rfl, by rw [ht']; exact hR, XK_warm ha (hS.F ht') hC.2.2.2.2.2.2.2.1, hS.F ht'⟩) hS.2.2 (Nat.le_refl _) (Nat.le_refl _))
end GXthrow
/-- a method's contract out of its body, for a class some of whose methods the machine runs by itself, but not this one -/
theorem Met.ofWF {l : Launch} {y : MethodName} {ws ws' : List Cond} {rm : Room} {Pc : Array Value → State → Prop} {Qc : Array Value → State → Outcome → State → Prop} {mc ms : Nat} {free : Addr → Prop} {cc : ByteArray} {maxL : Nat} {ret : Option FieldType}
    (hy : plainFor y = true) (hw : ws = Cond.code y cc maxL ret :: ws')
    (body : ∀ p e s m args below meth c s₁, BodyLoose p l y (headSpec ws rm) cc maxL ret e s m args below meth c s₁ → c.maxLocals = maxL → Pc args s →
      W p l e (headSpec ws rm).room s m args below meth c s.heap [] 0 0 (MQ below Qc args s mc ms free) (entryFrame m args maxL)) : Met l y ws rm Pc Qc mc ms free := by
  refine MetFree.of_bodySF (code := cc) (maxLocals := maxL) (ret := ret) hy ?_ ?_
  · intro args s m h hn
    obtain ⟨meth, c, h1, h2, h3, h4, h5, h6, -, -⟩ := Cond.code_spec hn (atoms_spec (ws := ws) h _ (by rw [hw]; exact List.mem_cons_self))
    exact ⟨meth, c, h1, h2, h3, h4, h5, h6⟩
  · intro p e s m args below meth c s₁ B hml hP _
    have hh0 : s₁.heap = s.heap := by rw [B.state]; rfl
    obtain ⟨t, a1, o, b1, b2, b3⟩ := body p e s m args below meth c s₁ B hml hP s₁ hh0 (Stand.of_body B)
    exact ⟨t, o, a1, b1, b2, ⟨b3.1, b3.2⟩⟩
theorem XMet0.of {l : Launch} {y : MethodName} {cc : ByteArray} {nL : Nat} {ret : Option FieldType} {d : Nat} {b : Bool} {x0 : Nat} {D : XD} {vals : List Value} {σ : XS} {tv : Nat} {z : Int × XS} (lv : List (Nat × Value)) (hy : plainFor y = true) (hlen : (lg_sl vals).length ≤ nL) (hlv : lv_args 0 vals = lv)
    (body : GX l cc y.cls nL ret y.name [] x0 D b tv d (nC σ) (nS σ) (0, z) σ 0 lv []) : XMet0 l y cc nL ret d b x0 D vals σ tv z := by
  refine ⟨body.1, ?_⟩
  refine Met.ofWF (cc := cc) (maxL := nL) (ret := ret) hy rfl ?_
  intro p e s m args below meth c s₁ B hml hv
  obtain ⟨rfl, hR, hKs⟩ := hv
  have hts := atoms_spec (ws := ws_ y cc nL ret) B.pre
  have hts : ∀ w ∈ lw_all, w.before _ s = true := fun w h => hts w (List.mem_cons_of_mem _ h)
  have hown : s.vm.findClass y.cls = some m.cls := findClass_of_methodNamed B.named
  have hl := lv_entry vals (n := nL) hlen
  rw [lg_entry_eq]
  rw [hlv] at hl
  have hxt : c.exceptionTable.toList = [] := by
    obtain ⟨meth9, c9, h1, h2, -, -, -, -, h7, -⟩ := Cond.code_spec B.named (atoms_spec (ws := ws_ y cc nL ret) B.pre _ List.mem_cons_self)
    cases Option.some.inj (h1.symm.trans B.method)
    cases Option.some.inj (h2.symm.trans (Stand.of_body B).code)
    rw [Array.isEmpty_iff.mp h7]
  have w := body.2 p e s m _ below meth c ⟨B.exec, B.bytes, B.returns, hml, hown, hts, B.notSynchronized, hKs, (name_of_methodNamed B.named B.method).1, hxt⟩ s.heap [] _ hR va_S.rf hl (Nat.le_refl _) (Nat.le_refl _)
  rw [Nat.sub_self, Nat.sub_self] at w
  intro T hT X
  obtain ⟨t, a1, o, b1, b2, b3⟩ := w T hT X
  rcases b3 with ⟨b4, b5⟩ | ⟨q, -, E, ce, L, ⟨hx, -⟩, -⟩
  · exact ⟨t, a1, o, b1, b2, b4, b5⟩
  · exact absurd (show (0 : Int) = 1 from hx) (by decide)
theorem XMet.of {l : Launch} {y : MethodName} {cc : ByteArray} {nL : Nat} {ret : Option FieldType} {d : Nat} {b : Bool} {x0 : Nat} {D : XD} {vals : List Value} {σ : XS} {tv : Nat} {z : RX} (lv : List (Nat × Value)) (hy : plainName y.cls = true) (hlen : (lg_sl vals).length ≤ nL) (hlv : lv_args 0 vals = lv)
    (body : GX l cc y.cls nL ret y.name [] x0 D b tv d (nC σ) (nS σ) z σ 0 lv []) : XMet l y cc nL ret d b x0 D vals σ tv z := by
  refine ⟨body.1, ?_⟩
  refine vq_ofW (cc := cc) (maxL := nL) (ret := ret) hy rfl ?_
  intro p e s m args below meth c s₁ B hml hxt hv
  obtain ⟨rfl, hR, hKs⟩ := hv
  have hts := atoms_spec (ws := ws_ y cc nL ret) B.pre
  have hts : ∀ w ∈ lw_all, w.before _ s = true := fun w h => hts w (List.mem_cons_of_mem _ h)
  have hown : s.vm.findClass y.cls = some m.cls := findClass_of_methodNamed B.named
  have hl := lv_entry vals (n := nL) hlen
  rw [lg_entry_eq]
  rw [hlv] at hl
  have w := body.2 p e s m _ below meth c ⟨B.exec, B.bytes, B.returns, hml, hown, hts, B.notSynchronized, hKs, (name_of_methodNamed B.named B.method).1, List.eq_nil_iff_forall_not_mem.mpr hxt⟩ s.heap [] _ hR va_S.rf hl (Nat.le_refl _) (Nat.le_refl _)
  rw [Nat.sub_self, Nat.sub_self] at w
  exact w
