/-! THE FRAME OF THE WALK: values by mathematical integers (J, Lg), a judgement GW over an abstract state with a representation Rp, a row an instruction -/
set_option maxRecDepth 100000
def J (a : Int) : Value := .int (Int32.ofInt a)
def Lg (a : Int) : Value := .long (Int64.ofInt a)
def i32 (a : Int) : Int := a.bmod 4294967296
def i64 (a : Int) : Int := a.bmod 18446744073709551616
def i8 (a : Int) : Int := a.bmod 256
def u16 (a : Int) : Int := a % 65536
def iand (a b : Int) : Int := (Int32.ofInt a &&& Int32.ofInt b).toInt
def ior (a b : Int) : Int := (Int32.ofInt a ||| Int32.ofInt b).toInt
def ixor (a b : Int) : Int := (Int32.ofInt a ^^^ Int32.ofInt b).toInt
def ishl (a b : Int) : Int := (Int32.ofInt a <<< (Int32.ofInt b &&& 31)).toInt
def ishr (a b : Int) : Int := (Int32.ofInt a >>> (Int32.ofInt b &&& 31)).toInt
def idiv (a b : Int) : Int := Int.tdiv (i32 a) (i32 b)
def irem (a b : Int) : Int := i32 a - Int.tdiv (i32 a) (i32 b) * i32 b
def ldiv (a b : Int) : Int := Int.tdiv (i64 a) (i64 b)
def lrem (a b : Int) : Int := i64 a - Int.tdiv (i64 a) (i64 b) * i64 b
theorem toInt_ofInt32 (a : Int) : (Int32.ofInt a).toInt = i32 a := Int32.toInt_ofInt
theorem toInt_ofInt64 (a : Int) : (Int64.ofInt a).toInt = i64 a := Int64.toInt_ofInt
theorem ofInt_i32 (a : Int) : Int32.ofInt (i32 a) = Int32.ofInt a := by rw [← toInt_ofInt32, Int32.ofInt_toInt]
theorem ofInt_i64 (a : Int) : Int64.ofInt (i64 a) = Int64.ofInt a := by rw [← toInt_ofInt64, Int64.ofInt_toInt]
theorem i32_id {a : Int} (h1 : -2147483648 ≤ a) (h2 : a < 2147483648) : i32 a = a := by unfold i32; rw [Int.bmod_eq_of_le] <;> omega
theorem i64_id {a : Int} (h1 : -9223372036854775808 ≤ a) (h2 : a < 9223372036854775808) : i64 a = a := by unfold i64; rw [Int.bmod_eq_of_le] <;> omega
theorem i32_lo (a : Int) : -2147483648 ≤ i32 a := by unfold i32; have := @Int.le_bmod a 4294967296 (by decide); omega
theorem i32_hi (a : Int) : i32 a < 2147483648 := by unfold i32; have := @Int.bmod_lt a 4294967296 (by decide); omega
theorem i64_lo (a : Int) : -9223372036854775808 ≤ i64 a := by unfold i64; have := @Int.le_bmod a 18446744073709551616 (by decide); omega
theorem i64_hi (a : Int) : i64 a < 9223372036854775808 := by unfold i64; have := @Int.bmod_lt a 18446744073709551616 (by decide); omega
theorem i32_i32 (a : Int) : i32 (i32 a) = i32 a := i32_id (i32_lo a) (i32_hi a)
theorem i64_i64 (a : Int) : i64 (i64 a) = i64 a := i64_id (i64_lo a) (i64_hi a)
theorem i64_i32 (a : Int) : i64 (i32 a) = i32 a := i64_id (by have := i32_lo a; omega) (by have := i32_hi a; omega)
theorem J_eq {a b : Int} (h : i32 a = i32 b) : J a = J b := by unfold J; rw [← ofInt_i32 a, h, ofInt_i32]
theorem eq32 (a b : Int) : Int32.ofInt a = Int32.ofInt b ↔ i32 a = i32 b := by rw [← Int32.toInt_inj, toInt_ofInt32, toInt_ofInt32]
theorem lt32 (a b : Int) : Int32.ofInt a < Int32.ofInt b ↔ i32 a < i32 b := by rw [Int32.lt_iff_toInt_lt, toInt_ofInt32, toInt_ofInt32]
theorem le32 (a b : Int) : Int32.ofInt a ≤ Int32.ofInt b ↔ i32 a ≤ i32 b := by rw [Int32.le_iff_toInt_le, toInt_ofInt32, toInt_ofInt32]
theorem i32_0 : i32 0 = 0 := by decide
theorem eq320 (a : Int) : Int32.ofInt a = 0 ↔ i32 a = 0 := by have := eq32 a 0; rw [i32_0] at this; exact this
theorem lt320 (a : Int) : Int32.ofInt a < 0 ↔ i32 a < 0 := by have := lt32 a 0; rw [i32_0] at this; exact this
theorem le320 (a : Int) : Int32.ofInt a ≤ 0 ↔ i32 a ≤ 0 := by have := le32 a 0; rw [i32_0] at this; exact this
theorem gt320 (a : Int) : 0 < Int32.ofInt a ↔ 0 < i32 a := by have := lt32 0 a; rw [i32_0] at this; exact this
theorem ge320 (a : Int) : 0 ≤ Int32.ofInt a ↔ 0 ≤ i32 a := by have := le32 0 a; rw [i32_0] at this; exact this
abbrev ok (n i : Int) : Prop := 0 ≤ i32 i ∧ i32 i < n
theorem ok_in {n : Nat} {i : Int} (h : ok n i) : vp_in (Int32.ofInt i) n := by rw [vp_in_iff, toInt_ofInt32]; exact h
theorem ok_ix {n i : Int} (h : ok n i) : (((Int32.ofInt i).toNatClampNeg : Nat) : Int) = i32 i := by
  have h1 := h.1
  rw [← toInt_ofInt32 i] at h1 ⊢
  exact Int.toNat_of_nonneg h1
def gd {α : Type} (c : Prop) [Decidable c] (x : Option α) : Option α := if c then x else none
def bnd {β α : Type} (e : β) (f : β → Option α) : Option α := f e
theorem if_t {α : Type} {c : Prop} [Decidable c] {a b x : α} (h : (if c then a else b) = x) (hc : c) : a = x := by rw [if_pos hc] at h; exact h
theorem if_f {α : Type} {c : Prop} [Decidable c] {a b x : α} (h : (if c then a else b) = x) (hc : ¬ c) : b = x := by rw [if_neg hc] at h; exact h
theorem gd_e {α : Type} {c : Prop} [Decidable c] {a : Option α} {x : α} (h : gd c a = some x) : c ∧ a = some x := by
  unfold gd at h
  by_cases hc : c
  · rw [if_pos hc] at h; exact ⟨hc, h⟩
  · rw [if_neg hc] at h; cases h
theorem bnd_e {β α : Type} {e : β} {f : β → Option α} {x : Option α} (h : bnd e f = x) : ∃ v, v = e ∧ f v = x := ⟨e, rfl, h⟩
theorem opt_e {β α : Type} {a : Option β} {f : β → Option α} {x : α} (h : a.bind f = some x) : ∃ v, a = some v ∧ f v = some x := by
  cases a with
  | none => cases h
  | some v => exact ⟨v, rfl, h⟩
def tvv (tv : Nat) (r : Int) : Option Value := match tv with
  | 0 => none
  | 1 => some (J r)
  | _ => some (Lg r)
def gPre {St : Type} (Rp : St → Heap → Prop) (K : State → Prop) (vals : List Value) (σ : St) : Array Value → State → Prop := fun v U => v = vals.toArray ∧ Rp σ U.heap ∧ K U
def gPost {St : Type} (Rp : St → Heap → Prop) (K : State → Prop) (A : Nat → Prop) (tv : Nat) (res : Int × St) : Array Value → State → Outcome → State → Prop := fun _ st oc t => oc = .returned (tvv tv res.1) ∧ Rp res.2 t.heap ∧ K t ∧ va_F A st t
/-- the room of a method at call depth d that makes nothing -/
def rmd (d : Nat) : Room := { frames := d, cells := 0, slots := 0, locals := 80 * d }
def GMet {St : Type} (l : Launch) (y : MethodName) (cc : ByteArray) (nL : Nat) (ret : Option FieldType) (d : Nat) (Rp : St → Heap → Prop) (K : State → Prop) (A : Nat → Prop) (vals : List Value) (σ : St) (tv : Nat) (res : Int × St) : Prop :=
  Met l y (ws_ y cc nL ret) (rmd d) (gPre Rp K vals σ) (gPost Rp K A tv res) 0 0 A
def KMoved (K : State → Prop) : Prop := ∀ u U : State, u.vm.Alike U.vm → K u → K U
def GC (p : Program) (s : State) (m : MethodId) (args : Array Value) (meth : Method) (c : Code) (cc : ByteArray) (own : String) (nL : Nat) (ret : Option FieldType) (K : State → Prop) : Prop :=
  p.tables.exec = Jvm.exec ∧ c.code = cc ∧ meth.sig.returnType = ret ∧ c.maxLocals = nL ∧ s.vm.findClass own = some m.cls ∧ (∀ w ∈ lw_all, w.before args s = true) ∧ meth.locks = false ∧ K s ∧ KMoved K
def GW {St : Type} (p : Program) (l : Launch) (e : Env) (R : Room) (s : State) (m : MethodId) (args : Array Value) (below : List Frame) (meth : Method) (c : Code) (nL : Nat) (A : Nat → Prop) (Rp : St → Heap → Prop) (K : State → Prop) (tv : Nat) (res : Int × St) (σ : St) (pc : Nat) (lv : List (Nat × Value)) (st : List Value) : Prop :=
  ∀ (H : Heap) (locs : List Loc) (ls : Array Slot), Rp σ H → va_S A s.heap H locs → lv_has ls nL lv → W p l e R s m args below meth c H locs 0 0 (MQ below (gPost Rp K A tv res) args s 0 0 A) (F0 m pc ls st)
section GWrows
variable {St : Type} {p : Program} {l : Launch} {e : Env} {R : Room} {s : State} {m : MethodId} {args : Array Value} {below : List Frame} {meth : Method} {c : Code} {nL : Nat} {A : Nat → Prop} {Rp : St → Heap → Prop} {K : State → Prop} {tv : Nat} {res : Int × St} {σ : St} {lv : List (Nat × Value)} {st : List Value} {cc : ByteArray} {own : String} {ret : Option FieldType}
theorem gw_sub (ks : List Nat) {lv' : List (Nat × Value)} {pc : Nat} (hl : lv_pick lv ks = lv') (k : GW p l e R s m args below meth c nL A Rp K tv res σ pc lv' st) : GW p l e R s m args below meth c nL A Rp K tv res σ pc lv st :=
  fun H locs ls hR hS hv => k H locs ls hR hS (lv_sub hv ks hl)
theorem gw_iconst (pc : Nat) (hC : GC p s m args meth c cc own nL ret K) {n : Int} (hd : decode cc pc = .ok (.iconst n, 1)) (k : GW p l e R s m args below meth c nL A Rp K tv res σ (pc + 1) lv (J n :: st)) : GW p l e R s m args below meth c nL A Rp K tv res σ pc lv st :=
  fun H locs ls hR hS hv => lv_iconst hC.1 hC.2.1 hd rfl (k H locs ls hR hS hv)
theorem gw_bipush (pc : Nat) (hC : GC p s m args meth c cc own nL ret K) {n : Int} (hd : decode cc pc = .ok (.bipush n, 2)) (hn : (Int8.ofInt n).toInt32 = Int32.ofInt n) (k : GW p l e R s m args below meth c nL A Rp K tv res σ (pc + 2) lv (J n :: st)) : GW p l e R s m args below meth c nL A Rp K tv res σ pc lv st :=
  fun H locs ls hR hS hv => lv_bipush hC.1 hC.2.1 hd hn (k H locs ls hR hS hv)
theorem gw_sipush (pc : Nat) (hC : GC p s m args meth c cc own nL ret K) {n : Int} (hd : decode cc pc = .ok (.sipush n, 3)) (hn : (Int16.ofInt n).toInt32 = Int32.ofInt n) (k : GW p l e R s m args below meth c nL A Rp K tv res σ (pc + 3) lv (J n :: st)) : GW p l e R s m args below meth c nL A Rp K tv res σ pc lv st :=
  fun H locs ls hR hS hv => lv_sipush hC.1 hC.2.1 hd hn (k H locs ls hR hS hv)
theorem gw_lconst (pc : Nat) (hC : GC p s m args meth c cc own nL ret K) {n : Fin 2} {v : Int} (hd : decode cc pc = .ok (.lconst n, 1)) (hn : Int64.ofNat (n : Nat) = Int64.ofInt v) (k : GW p l e R s m args below meth c nL A Rp K tv res σ (pc + 1) lv (Lg v :: st)) : GW p l e R s m args below meth c nL A Rp K tv res σ pc lv st :=
  fun H locs ls hR hS hv => lv_lconst hC.1 hC.2.1 hd hn (k H locs ls hR hS hv)
theorem gw_ldc2 (pc : Nat) (hC : GC p s m args meth c cc own nL ret K) {idx : Nat} {w : Int64} {v : Int} (hd : decode cc pc = .ok (.ldc2_w idx, 3)) (hq : Cond.constantLong own idx w ∈ lw_all) (hn : w = Int64.ofInt v) (k : GW p l e R s m args below meth c nL A Rp K tv res σ (pc + 3) lv (Lg v :: st)) : GW p l e R s m args below meth c nL A Rp K tv res σ pc lv st :=
  fun H locs ls hR hS hv => lv_ldc2 hC.1 hC.2.1 hC.2.2.2.2.1 (hC.2.2.2.2.2.1 _ hq) hd (by rw [hn]; exact k H locs ls hR hS hv)
theorem gw_iload_n (pc q : Nat) (hC : GC p s m args meth c cc own nL ret K) {i : Fin 4} {x : Int} (hd : decode cc pc = .ok (.iload_n i, 1)) (hq : lv[q]? = some ((i : Nat), J x)) (k : GW p l e R s m args below meth c nL A Rp K tv res σ (pc + 1) lv (J x :: st)) : GW p l e R s m args below meth c nL A Rp K tv res σ pc lv st :=
  fun H locs ls hR hS hv => lv_iload_n hC.1 hC.2.1 hd rfl (lv_at hv q hq) (k H locs ls hR hS hv)
theorem gw_iload (pc q : Nat) (hC : GC p s m args meth c cc own nL ret K) {i : Nat} {x : Int} (hd : decode cc pc = .ok (.iload i, 2)) (hq : lv[q]? = some (i, J x)) (k : GW p l e R s m args below meth c nL A Rp K tv res σ (pc + 2) lv (J x :: st)) : GW p l e R s m args below meth c nL A Rp K tv res σ pc lv st :=
  fun H locs ls hR hS hv => lv_iload hC.1 hC.2.1 hd (lv_at hv q hq) (k H locs ls hR hS hv)
theorem gw_lload_n (pc q : Nat) (hC : GC p s m args meth c cc own nL ret K) {i : Fin 4} {x : Int} (hd : decode cc pc = .ok (.lload_n i, 1)) (hq : lv[q]? = some ((i : Nat), Lg x)) (k : GW p l e R s m args below meth c nL A Rp K tv res σ (pc + 1) lv (Lg x :: st)) : GW p l e R s m args below meth c nL A Rp K tv res σ pc lv st :=
  fun H locs ls hR hS hv => lv_lload_n hC.1 hC.2.1 hd rfl (lv_at hv q hq) (k H locs ls hR hS hv)
theorem gw_lload (pc q : Nat) (hC : GC p s m args meth c cc own nL ret K) {i : Nat} {x : Int} (hd : decode cc pc = .ok (.lload i, 2)) (hq : lv[q]? = some (i, Lg x)) (k : GW p l e R s m args below meth c nL A Rp K tv res σ (pc + 2) lv (Lg x :: st)) : GW p l e R s m args below meth c nL A Rp K tv res σ pc lv st :=
  fun H locs ls hR hS hv => lv_lload hC.1 hC.2.1 hd (lv_at hv q hq) (k H locs ls hR hS hv)
theorem gw_aload_n (pc q : Nat) (hC : GC p s m args meth c cc own nL ret K) {i : Fin 4} {x : Nat} (hd : decode cc pc = .ok (.aload_n i, 1)) (hq : lv[q]? = some ((i : Nat), .ref x)) (k : GW p l e R s m args below meth c nL A Rp K tv res σ (pc + 1) lv (.ref x :: st)) : GW p l e R s m args below meth c nL A Rp K tv res σ pc lv st :=
  fun H locs ls hR hS hv => lv_aload_n hC.1 hC.2.1 hd rfl (lv_at hv q hq) (k H locs ls hR hS hv)
theorem gw_aload (pc q : Nat) (hC : GC p s m args meth c cc own nL ret K) {i : Nat} {x : Nat} (hd : decode cc pc = .ok (.aload i, 2)) (hq : lv[q]? = some (i, .ref x)) (k : GW p l e R s m args below meth c nL A Rp K tv res σ (pc + 2) lv (.ref x :: st)) : GW p l e R s m args below meth c nL A Rp K tv res σ pc lv st :=
  fun H locs ls hR hS hv => lv_aload hC.1 hC.2.1 hd (lv_at hv q hq) (k H locs ls hR hS hv)
/-- the locals behind a store of one slot, of two -/
abbrev lvs1 (lv : List (Nat × Value)) (i : Nat) (v : Value) : List (Nat × Value) := (i, v) :: lv.filter (fun q => !(q.1 == i) && !(q.1 + 1 == i && q.2.category == 2))
abbrev lvs2 (lv : List (Nat × Value)) (i : Nat) (v : Value) : List (Nat × Value) := (i, v) :: lv.filter (fun q => !(q.1 == i) && (!(q.1 == i + 1) && !(q.1 + 1 == i && q.2.category == 2)))
theorem gw_istore_n (pc : Nat) (lv' : List (Nat × Value)) (hC : GC p s m args meth c cc own nL ret K) {i : Fin 4} {x v : Int} (hd : decode cc pc = .ok (.istore_n i, 1)) (hn : (i : Nat) < nL) (hv0 : v = x) (hl : lvs1 lv i (J v) = lv') (k : GW p l e R s m args below meth c nL A Rp K tv res σ (pc + 1) lv' st) : GW p l e R s m args below meth c nL A Rp K tv res σ pc lv (J x :: st) := by
  subst hv0
  exact fun H locs ls hR hS hv => lv_istore_n hC.1 hC.2.1 hd rfl hv hn hl (fun ls' h' => k H locs ls' hR hS h')
theorem gw_istore (pc : Nat) (lv' : List (Nat × Value)) (hC : GC p s m args meth c cc own nL ret K) {i : Nat} {x v : Int} (hd : decode cc pc = .ok (.istore i, 2)) (hn : i < nL) (hv0 : v = x) (hl : lvs1 lv i (J v) = lv') (k : GW p l e R s m args below meth c nL A Rp K tv res σ (pc + 2) lv' st) : GW p l e R s m args below meth c nL A Rp K tv res σ pc lv (J x :: st) := by
  subst hv0
  exact fun H locs ls hR hS hv => lv_istore hC.1 hC.2.1 hd hv hn hl (fun ls' h' => k H locs ls' hR hS h')
theorem gw_lstore_n (pc : Nat) (lv' : List (Nat × Value)) (hC : GC p s m args meth c cc own nL ret K) {i : Fin 4} {x v : Int} (hd : decode cc pc = .ok (.lstore_n i, 1)) (hn : (i : Nat) + 1 < nL) (hv0 : v = x) (hl : lvs2 lv i (Lg v) = lv') (k : GW p l e R s m args below meth c nL A Rp K tv res σ (pc + 1) lv' st) : GW p l e R s m args below meth c nL A Rp K tv res σ pc lv (Lg x :: st) := by
  subst hv0
  exact fun H locs ls hR hS hv => lv_lstore_n hC.1 hC.2.1 hd rfl hv hn hl (fun ls' h' => k H locs ls' hR hS h')
theorem gw_lstore (pc : Nat) (lv' : List (Nat × Value)) (hC : GC p s m args meth c cc own nL ret K) {i : Nat} {x v : Int} (hd : decode cc pc = .ok (.lstore i, 2)) (hn : i + 1 < nL) (hv0 : v = x) (hl : lvs2 lv i (Lg v) = lv') (k : GW p l e R s m args below meth c nL A Rp K tv res σ (pc + 2) lv' st) : GW p l e R s m args below meth c nL A Rp K tv res σ pc lv (Lg x :: st) := by
  subst hv0
  exact fun H locs ls hR hS hv => lv_lstore hC.1 hC.2.1 hd hv hn hl (fun ls' h' => k H locs ls' hR hS h')
theorem gw_astore_n (pc : Nat) (lv' : List (Nat × Value)) (hC : GC p s m args meth c cc own nL ret K) {i : Fin 4} {x : Nat} (hd : decode cc pc = .ok (.astore_n i, 1)) (hn : (i : Nat) < nL) (hl : lvs1 lv i (.ref x) = lv') (k : GW p l e R s m args below meth c nL A Rp K tv res σ (pc + 1) lv' st) : GW p l e R s m args below meth c nL A Rp K tv res σ pc lv (.ref x :: st) :=
  fun H locs ls hR hS hv => lv_astore_n hC.1 hC.2.1 hd rfl hv hn hl (fun ls' h' => k H locs ls' hR hS h')
theorem gw_astore (pc : Nat) (lv' : List (Nat × Value)) (hC : GC p s m args meth c cc own nL ret K) {i : Nat} {x : Nat} (hd : decode cc pc = .ok (.astore i, 2)) (hn : i < nL) (hl : lvs1 lv i (.ref x) = lv') (k : GW p l e R s m args below meth c nL A Rp K tv res σ (pc + 2) lv' st) : GW p l e R s m args below meth c nL A Rp K tv res σ pc lv (.ref x :: st) :=
  fun H locs ls hR hS hv => lv_astore hC.1 hC.2.1 hd hv hn hl (fun ls' h' => k H locs ls' hR hS h')
theorem gw_iinc (pc q : Nat) (lv' : List (Nat × Value)) (hC : GC p s m args meth c cc own nL ret K) {i : Nat} {n x v : Int} (hd : decode cc pc = .ok (.iinc i n, 3)) (hq : lv[q]? = some (i, J x)) (hv' : v = x + n) (hn : i < nL) (hl : lvs1 lv i (J v) = lv') (k : GW p l e R s m args below meth c nL A Rp K tv res σ (pc + 3) lv' st) : GW p l e R s m args below meth c nL A Rp K tv res σ pc lv st :=
  fun H locs ls hR hS hv => lv_iinc hC.1 hC.2.1 hd hv hq (by rw [hv', Int32.ofInt_add]) hn hl (fun ls' h' => k H locs ls' hR hS h')
theorem gw_iadd (pc : Nat) (hC : GC p s m args meth c cc own nL ret K) {x y : Int} (hd : decode cc pc = .ok (.iadd, 1)) (k : GW p l e R s m args below meth c nL A Rp K tv res σ (pc + 1) lv (J (x + y) :: st)) : GW p l e R s m args below meth c nL A Rp K tv res σ pc lv (J y :: J x :: st) :=
  fun H locs ls hR hS hv => lv_iadd hC.1 hC.2.1 hd (by have := k H locs ls hR hS hv; rw [J, Int32.ofInt_add] at this; exact this)
theorem gw_isub (pc : Nat) (hC : GC p s m args meth c cc own nL ret K) {x y : Int} (hd : decode cc pc = .ok (.isub, 1)) (k : GW p l e R s m args below meth c nL A Rp K tv res σ (pc + 1) lv (J (x - y) :: st)) : GW p l e R s m args below meth c nL A Rp K tv res σ pc lv (J y :: J x :: st) :=
  fun H locs ls hR hS hv => lv_isub hC.1 hC.2.1 hd (by have := k H locs ls hR hS hv; rw [J, Int32.ofInt_sub] at this; exact this)
theorem gw_imul (pc : Nat) (hC : GC p s m args meth c cc own nL ret K) {x y : Int} (hd : decode cc pc = .ok (.imul, 1)) (k : GW p l e R s m args below meth c nL A Rp K tv res σ (pc + 1) lv (J (x * y) :: st)) : GW p l e R s m args below meth c nL A Rp K tv res σ pc lv (J y :: J x :: st) :=
  fun H locs ls hR hS hv => lv_imul hC.1 hC.2.1 hd (by have := k H locs ls hR hS hv; rw [J, Int32.ofInt_mul] at this; exact this)
theorem gw_ineg (pc : Nat) (hC : GC p s m args meth c cc own nL ret K) {x : Int} (hd : decode cc pc = .ok (.ineg, 1)) (k : GW p l e R s m args below meth c nL A Rp K tv res σ (pc + 1) lv (J (-x) :: st)) : GW p l e R s m args below meth c nL A Rp K tv res σ pc lv (J x :: st) :=
  fun H locs ls hR hS hv => lv_ineg hC.1 hC.2.1 hd (by have := k H locs ls hR hS hv; rw [J, Int32.ofInt_neg] at this; exact this)
theorem gw_iand (pc : Nat) (hC : GC p s m args meth c cc own nL ret K) {x y : Int} (hd : decode cc pc = .ok (.iand, 1)) (k : GW p l e R s m args below meth c nL A Rp K tv res σ (pc + 1) lv (J (iand x y) :: st)) : GW p l e R s m args below meth c nL A Rp K tv res σ pc lv (J y :: J x :: st) :=
  fun H locs ls hR hS hv => lv_iand hC.1 hC.2.1 hd (by have := k H locs ls hR hS hv; rw [J, iand, Int32.ofInt_toInt] at this; exact this)
theorem gw_ior (pc : Nat) (hC : GC p s m args meth c cc own nL ret K) {x y : Int} (hd : decode cc pc = .ok (.ior, 1)) (k : GW p l e R s m args below meth c nL A Rp K tv res σ (pc + 1) lv (J (ior x y) :: st)) : GW p l e R s m args below meth c nL A Rp K tv res σ pc lv (J y :: J x :: st) :=
  fun H locs ls hR hS hv => lv_ior hC.1 hC.2.1 hd (by have := k H locs ls hR hS hv; rw [J, ior, Int32.ofInt_toInt] at this; exact this)
theorem gw_ixor (pc : Nat) (hC : GC p s m args meth c cc own nL ret K) {x y : Int} (hd : decode cc pc = .ok (.ixor, 1)) (k : GW p l e R s m args below meth c nL A Rp K tv res σ (pc + 1) lv (J (ixor x y) :: st)) : GW p l e R s m args below meth c nL A Rp K tv res σ pc lv (J y :: J x :: st) :=
  fun H locs ls hR hS hv => lv_ixor hC.1 hC.2.1 hd (by have := k H locs ls hR hS hv; rw [J, ixor, Int32.ofInt_toInt] at this; exact this)
theorem gw_ishl (pc : Nat) (hC : GC p s m args meth c cc own nL ret K) {x y : Int} (hd : decode cc pc = .ok (.ishl, 1)) (k : GW p l e R s m args below meth c nL A Rp K tv res σ (pc + 1) lv (J (ishl x y) :: st)) : GW p l e R s m args below meth c nL A Rp K tv res σ pc lv (J y :: J x :: st) :=
  fun H locs ls hR hS hv => lv_ishl hC.1 hC.2.1 hd (by have := k H locs ls hR hS hv; rw [J, ishl, Int32.ofInt_toInt] at this; exact this)
theorem gw_ishr (pc : Nat) (hC : GC p s m args meth c cc own nL ret K) {x y : Int} (hd : decode cc pc = .ok (.ishr, 1)) (k : GW p l e R s m args below meth c nL A Rp K tv res σ (pc + 1) lv (J (ishr x y) :: st)) : GW p l e R s m args below meth c nL A Rp K tv res σ pc lv (J y :: J x :: st) :=
  fun H locs ls hR hS hv => lv_ishr hC.1 hC.2.1 hd (by have := k H locs ls hR hS hv; rw [J, ishr, Int32.ofInt_toInt] at this; exact this)
theorem J_idiv (x y : Int) : Int32.ofInt x / Int32.ofInt y = Int32.ofInt (idiv x y) := by
  rw [← Int32.toInt_inj, Int32.toInt_div, toInt_ofInt32, toInt_ofInt32, toInt_ofInt32]; rfl
theorem J_irem (x y : Int) : Int32.ofInt x - Int32.ofInt x / Int32.ofInt y * Int32.ofInt y = Int32.ofInt (irem x y) := by
  rw [J_idiv, irem, Int32.ofInt_sub, Int32.ofInt_mul, ofInt_i32, ofInt_i32]; rfl
theorem Lg_ldiv (x y : Int) : Int64.ofInt x / Int64.ofInt y = Int64.ofInt (ldiv x y) := by
  rw [← Int64.toInt_inj, Int64.toInt_div, toInt_ofInt64, toInt_ofInt64, toInt_ofInt64]; rfl
theorem Lg_lrem (x y : Int) : Int64.ofInt x - Int64.ofInt x / Int64.ofInt y * Int64.ofInt y = Int64.ofInt (lrem x y) := by
  rw [Lg_ldiv, lrem, Int64.ofInt_sub, Int64.ofInt_mul, ofInt_i64, ofInt_i64]; rfl
theorem eq64 (a b : Int) : Int64.ofInt a = Int64.ofInt b ↔ i64 a = i64 b := by rw [← Int64.toInt_inj, toInt_ofInt64, toInt_ofInt64]
theorem lt64 (a b : Int) : Int64.ofInt a < Int64.ofInt b ↔ i64 a < i64 b := by rw [Int64.lt_iff_toInt_lt, toInt_ofInt64, toInt_ofInt64]
theorem le64 (a b : Int) : Int64.ofInt a ≤ Int64.ofInt b ↔ i64 a ≤ i64 b := by rw [Int64.le_iff_toInt_le, toInt_ofInt64, toInt_ofInt64]
theorem gw_idiv (pc : Nat) (hC : GC p s m args meth c cc own nL ret K) {x y : Int} (hd : decode cc pc = .ok (.idiv, 1)) (hy : ¬ i32 y = 0) (k : GW p l e R s m args below meth c nL A Rp K tv res σ (pc + 1) lv (J (idiv x y) :: st)) : GW p l e R s m args below meth c nL A Rp K tv res σ pc lv (J y :: J x :: st) :=
  fun H locs ls hR hS hv => lv_idiv hC.1 hC.2.1 hd (fun h => hy ((eq320 y).mp h)) (by rw [J_idiv]; exact k H locs ls hR hS hv)
theorem gw_irem (pc : Nat) (hC : GC p s m args meth c cc own nL ret K) {x y : Int} (hd : decode cc pc = .ok (.irem, 1)) (hy : ¬ i32 y = 0) (k : GW p l e R s m args below meth c nL A Rp K tv res σ (pc + 1) lv (J (irem x y) :: st)) : GW p l e R s m args below meth c nL A Rp K tv res σ pc lv (J y :: J x :: st) :=
  fun H locs ls hR hS hv => lv_irem hC.1 hC.2.1 hd (fun h => hy ((eq320 y).mp h)) (by rw [J_irem]; exact k H locs ls hR hS hv)
theorem gw_ladd (pc : Nat) (hC : GC p s m args meth c cc own nL ret K) {x y : Int} (hd : decode cc pc = .ok (.ladd, 1)) (k : GW p l e R s m args below meth c nL A Rp K tv res σ (pc + 1) lv (Lg (x + y) :: st)) : GW p l e R s m args below meth c nL A Rp K tv res σ pc lv (Lg y :: Lg x :: st) :=
  fun H locs ls hR hS hv => lv_ladd hC.1 hC.2.1 hd (by have := k H locs ls hR hS hv; rw [Lg, Int64.ofInt_add] at this; exact this)
theorem gw_lsub (pc : Nat) (hC : GC p s m args meth c cc own nL ret K) {x y : Int} (hd : decode cc pc = .ok (.lsub, 1)) (k : GW p l e R s m args below meth c nL A Rp K tv res σ (pc + 1) lv (Lg (x - y) :: st)) : GW p l e R s m args below meth c nL A Rp K tv res σ pc lv (Lg y :: Lg x :: st) :=
  fun H locs ls hR hS hv => lv_lsub hC.1 hC.2.1 hd (by have := k H locs ls hR hS hv; rw [Lg, Int64.ofInt_sub] at this; exact this)
theorem gw_lmul (pc : Nat) (hC : GC p s m args meth c cc own nL ret K) {x y : Int} (hd : decode cc pc = .ok (.lmul, 1)) (k : GW p l e R s m args below meth c nL A Rp K tv res σ (pc + 1) lv (Lg (x * y) :: st)) : GW p l e R s m args below meth c nL A Rp K tv res σ pc lv (Lg y :: Lg x :: st) :=
  fun H locs ls hR hS hv => lv_lmul hC.1 hC.2.1 hd (by have := k H locs ls hR hS hv; rw [Lg, Int64.ofInt_mul] at this; exact this)
theorem gw_ldiv (pc : Nat) (hC : GC p s m args meth c cc own nL ret K) {x y : Int} (hd : decode cc pc = .ok (.ldiv, 1)) (hy : ¬ i64 y = 0) (k : GW p l e R s m args below meth c nL A Rp K tv res σ (pc + 1) lv (Lg (ldiv x y) :: st)) : GW p l e R s m args below meth c nL A Rp K tv res σ pc lv (Lg y :: Lg x :: st) :=
  fun H locs ls hR hS hv => lv_ldiv hC.1 hC.2.1 hd (fun h => hy ((eq64 y 0).mp h)) (by rw [Lg_ldiv]; exact k H locs ls hR hS hv)
theorem gw_lrem (pc : Nat) (hC : GC p s m args meth c cc own nL ret K) {x y : Int} (hd : decode cc pc = .ok (.lrem, 1)) (hy : ¬ i64 y = 0) (k : GW p l e R s m args below meth c nL A Rp K tv res σ (pc + 1) lv (Lg (lrem x y) :: st)) : GW p l e R s m args below meth c nL A Rp K tv res σ pc lv (Lg y :: Lg x :: st) :=
  fun H locs ls hR hS hv => lv_lrem hC.1 hC.2.1 hd (fun h => hy ((eq64 y 0).mp h)) (by rw [Lg_lrem]; exact k H locs ls hR hS hv)
theorem gw_i2l (pc : Nat) (hC : GC p s m args meth c cc own nL ret K) {x : Int} (hd : decode cc pc = .ok (.i2l, 1)) (k : GW p l e R s m args below meth c nL A Rp K tv res σ (pc + 1) lv (Lg (i32 x) :: st)) : GW p l e R s m args below meth c nL A Rp K tv res σ pc lv (J x :: st) :=
  fun H locs ls hR hS hv => lv_i2l hC.1 hC.2.1 hd (by rw [← Int64.toInt_inj, Int32.toInt_toInt64, toInt_ofInt32, toInt_ofInt64, i64_i32]) (k H locs ls hR hS hv)
theorem gw_l2i (pc : Nat) (hC : GC p s m args meth c cc own nL ret K) {x : Int} (hd : decode cc pc = .ok (.l2i, 1)) (k : GW p l e R s m args below meth c nL A Rp K tv res σ (pc + 1) lv (J x :: st)) : GW p l e R s m args below meth c nL A Rp K tv res σ pc lv (Lg x :: st) :=
  fun H locs ls hR hS hv => lv_l2i hC.1 hC.2.1 hd Int64.toInt32_ofInt (k H locs ls hR hS hv)
theorem gw_i2b (pc : Nat) (hC : GC p s m args meth c cc own nL ret K) {x : Int} (hd : decode cc pc = .ok (.i2b, 1)) (k : GW p l e R s m args below meth c nL A Rp K tv res σ (pc + 1) lv (J (i8 x) :: st)) : GW p l e R s m args below meth c nL A Rp K tv res σ pc lv (J x :: st) :=
  fun H locs ls hR hS hv => lv_i2b hC.1 hC.2.1 hd (by
    rw [← Int32.toInt_inj, Int8.toInt_toInt32, Int32.toInt8_ofInt, Int8.toInt_ofInt, toInt_ofInt32]
    have h1 := @Int.le_bmod x 256 (by decide)
    have h2 := @Int.bmod_lt x 256 (by decide)
    exact (i32_id (a := i8 x) (by unfold i8; omega) (by unfold i8; omega)).symm) (k H locs ls hR hS hv)
theorem gw_dup (pc : Nat) (hC : GC p s m args meth c cc own nL ret K) {v : Value} (hd : decode cc pc = .ok (.dup, 1)) (hv1 : v.category = 1) (k : GW p l e R s m args below meth c nL A Rp K tv res σ (pc + 1) lv (v :: v :: st)) : GW p l e R s m args below meth c nL A Rp K tv res σ pc lv (v :: st) :=
  fun H locs ls hR hS hv => lv_dup hC.1 hC.2.1 hd hv1 (k H locs ls hR hS hv)
theorem gw_pop (pc : Nat) (hC : GC p s m args meth c cc own nL ret K) {v : Value} (hd : decode cc pc = .ok (.pop, 1)) (hv1 : v.category = 1) (k : GW p l e R s m args below meth c nL A Rp K tv res σ (pc + 1) lv st) : GW p l e R s m args below meth c nL A Rp K tv res σ pc lv (v :: st) :=
  fun H locs ls hR hS hv => lv_pop hC.1 hC.2.1 hd hv1 (k H locs ls hR hS hv)
theorem gw_dup2 (pc : Nat) (hC : GC p s m args meth c cc own nL ret K) {v w : Value} (hd : decode cc pc = .ok (.dup2, 1)) (hv1 : v.category = 1) (hw1 : w.category = 1) (k : GW p l e R s m args below meth c nL A Rp K tv res σ (pc + 1) lv (v :: w :: v :: w :: st)) : GW p l e R s m args below meth c nL A Rp K tv res σ pc lv (v :: w :: st) :=
  fun H locs ls hR hS hv => lv_dup2_11 hC.1 hC.2.1 hd hv1 hw1 (k H locs ls hR hS hv)
theorem gw_dup_x1 (pc : Nat) (hC : GC p s m args meth c cc own nL ret K) {v w : Value} (hd : decode cc pc = .ok (.dup_x1, 1)) (hv1 : v.category = 1) (hw1 : w.category = 1) (k : GW p l e R s m args below meth c nL A Rp K tv res σ (pc + 1) lv (v :: w :: v :: st)) : GW p l e R s m args below meth c nL A Rp K tv res σ pc lv (v :: w :: st) :=
  fun H locs ls hR hS hv => lv_dup_x1 hC.1 hC.2.1 hd hv1 hw1 (k H locs ls hR hS hv)
theorem gw_goto (pc tgt : Nat) (hC : GC p s m args meth c cc own nL ret K) {off : Int} (hd : decode cc pc = .ok (.goto off, 3)) (ht : (pc : Int) + off = (tgt : Int)) (k : GW p l e R s m args below meth c nL A Rp K tv res σ tgt lv st) : GW p l e R s m args below meth c nL A Rp K tv res σ pc lv st :=
  fun H locs ls hR hS hv => lv_goto hC.1 hC.2.1 hd ht (k H locs ls hR hS hv)
theorem gw_if_eq (pc tgt : Nat) (hC : GC p s m args meth c cc own nL ret K) {x off : Int} (hd : decode cc pc = .ok (.ifCond .eq off, 3)) (ht : (pc : Int) + off = (tgt : Int)) (kt : i32 x = 0 → GW p l e R s m args below meth c nL A Rp K tv res σ tgt lv st) (kf : ¬ i32 x = 0 → GW p l e R s m args below meth c nL A Rp K tv res σ (pc + 3) lv st) : GW p l e R s m args below meth c nL A Rp K tv res σ pc lv (J x :: st) :=
  fun H locs ls hR hS hv => lv_if_eq hC.1 hC.2.1 hd ht (fun h => kt ((eq320 x).mp h) H locs ls hR hS hv) (fun h => kf (fun q => h ((eq320 x).mpr q)) H locs ls hR hS hv)
theorem gw_icmp_eq (pc tgt : Nat) (hC : GC p s m args meth c cc own nL ret K) {x y off : Int} (hd : decode cc pc = .ok (.if_icmp .eq off, 3)) (ht : (pc : Int) + off = (tgt : Int)) (kt : i32 x = i32 y → GW p l e R s m args below meth c nL A Rp K tv res σ tgt lv st) (kf : ¬ i32 x = i32 y → GW p l e R s m args below meth c nL A Rp K tv res σ (pc + 3) lv st) : GW p l e R s m args below meth c nL A Rp K tv res σ pc lv (J y :: J x :: st) :=
  fun H locs ls hR hS hv => lv_icmp_eq hC.1 hC.2.1 hd ht (fun h => kt ((eq32 x y).mp h) H locs ls hR hS hv) (fun h => kf (fun q => h ((eq32 x y).mpr q)) H locs ls hR hS hv)
theorem gw_if_ne (pc tgt : Nat) (hC : GC p s m args meth c cc own nL ret K) {x off : Int} (hd : decode cc pc = .ok (.ifCond .ne off, 3)) (ht : (pc : Int) + off = (tgt : Int)) (kt : ¬ i32 x = 0 → GW p l e R s m args below meth c nL A Rp K tv res σ tgt lv st) (kf : i32 x = 0 → GW p l e R s m args below meth c nL A Rp K tv res σ (pc + 3) lv st) : GW p l e R s m args below meth c nL A Rp K tv res σ pc lv (J x :: st) :=
  fun H locs ls hR hS hv => lv_if_ne hC.1 hC.2.1 hd ht (fun h => kt (fun q => h ((eq320 x).mpr q)) H locs ls hR hS hv) (fun h => kf ((eq320 x).mp h) H locs ls hR hS hv)
theorem gw_icmp_ne (pc tgt : Nat) (hC : GC p s m args meth c cc own nL ret K) {x y off : Int} (hd : decode cc pc = .ok (.if_icmp .ne off, 3)) (ht : (pc : Int) + off = (tgt : Int)) (kt : ¬ i32 x = i32 y → GW p l e R s m args below meth c nL A Rp K tv res σ tgt lv st) (kf : i32 x = i32 y → GW p l e R s m args below meth c nL A Rp K tv res σ (pc + 3) lv st) : GW p l e R s m args below meth c nL A Rp K tv res σ pc lv (J y :: J x :: st) :=
  fun H locs ls hR hS hv => lv_icmp_ne hC.1 hC.2.1 hd ht (fun h => kt (fun q => h ((eq32 x y).mpr q)) H locs ls hR hS hv) (fun h => kf ((eq32 x y).mp h) H locs ls hR hS hv)
theorem gw_if_lt (pc tgt : Nat) (hC : GC p s m args meth c cc own nL ret K) {x off : Int} (hd : decode cc pc = .ok (.ifCond .lt off, 3)) (ht : (pc : Int) + off = (tgt : Int)) (kt : i32 x < 0 → GW p l e R s m args below meth c nL A Rp K tv res σ tgt lv st) (kf : ¬ i32 x < 0 → GW p l e R s m args below meth c nL A Rp K tv res σ (pc + 3) lv st) : GW p l e R s m args below meth c nL A Rp K tv res σ pc lv (J x :: st) :=
  fun H locs ls hR hS hv => lv_if_lt hC.1 hC.2.1 hd ht (fun h => kt ((lt320 x).mp h) H locs ls hR hS hv) (fun h => kf (fun q => h ((lt320 x).mpr q)) H locs ls hR hS hv)
theorem gw_icmp_lt (pc tgt : Nat) (hC : GC p s m args meth c cc own nL ret K) {x y off : Int} (hd : decode cc pc = .ok (.if_icmp .lt off, 3)) (ht : (pc : Int) + off = (tgt : Int)) (kt : i32 x < i32 y → GW p l e R s m args below meth c nL A Rp K tv res σ tgt lv st) (kf : ¬ i32 x < i32 y → GW p l e R s m args below meth c nL A Rp K tv res σ (pc + 3) lv st) : GW p l e R s m args below meth c nL A Rp K tv res σ pc lv (J y :: J x :: st) :=
  fun H locs ls hR hS hv => lv_icmp_lt hC.1 hC.2.1 hd ht (fun h => kt ((lt32 x y).mp h) H locs ls hR hS hv) (fun h => kf (fun q => h ((lt32 x y).mpr q)) H locs ls hR hS hv)
theorem gw_if_ge (pc tgt : Nat) (hC : GC p s m args meth c cc own nL ret K) {x off : Int} (hd : decode cc pc = .ok (.ifCond .ge off, 3)) (ht : (pc : Int) + off = (tgt : Int)) (kt : 0 ≤ i32 x → GW p l e R s m args below meth c nL A Rp K tv res σ tgt lv st) (kf : ¬ 0 ≤ i32 x → GW p l e R s m args below meth c nL A Rp K tv res σ (pc + 3) lv st) : GW p l e R s m args below meth c nL A Rp K tv res σ pc lv (J x :: st) :=
  fun H locs ls hR hS hv => lv_if_ge hC.1 hC.2.1 hd ht (fun h => kt ((ge320 x).mp h) H locs ls hR hS hv) (fun h => kf (fun q => h ((ge320 x).mpr q)) H locs ls hR hS hv)
theorem gw_icmp_ge (pc tgt : Nat) (hC : GC p s m args meth c cc own nL ret K) {x y off : Int} (hd : decode cc pc = .ok (.if_icmp .ge off, 3)) (ht : (pc : Int) + off = (tgt : Int)) (kt : i32 y ≤ i32 x → GW p l e R s m args below meth c nL A Rp K tv res σ tgt lv st) (kf : ¬ i32 y ≤ i32 x → GW p l e R s m args below meth c nL A Rp K tv res σ (pc + 3) lv st) : GW p l e R s m args below meth c nL A Rp K tv res σ pc lv (J y :: J x :: st) :=
  fun H locs ls hR hS hv => lv_icmp_ge hC.1 hC.2.1 hd ht (fun h => kt ((le32 y x).mp h) H locs ls hR hS hv) (fun h => kf (fun q => h ((le32 y x).mpr q)) H locs ls hR hS hv)
theorem gw_if_gt (pc tgt : Nat) (hC : GC p s m args meth c cc own nL ret K) {x off : Int} (hd : decode cc pc = .ok (.ifCond .gt off, 3)) (ht : (pc : Int) + off = (tgt : Int)) (kt : 0 < i32 x → GW p l e R s m args below meth c nL A Rp K tv res σ tgt lv st) (kf : ¬ 0 < i32 x → GW p l e R s m args below meth c nL A Rp K tv res σ (pc + 3) lv st) : GW p l e R s m args below meth c nL A Rp K tv res σ pc lv (J x :: st) :=
  fun H locs ls hR hS hv => lv_if_gt hC.1 hC.2.1 hd ht (fun h => kt ((gt320 x).mp h) H locs ls hR hS hv) (fun h => kf (fun q => h ((gt320 x).mpr q)) H locs ls hR hS hv)
theorem gw_icmp_gt (pc tgt : Nat) (hC : GC p s m args meth c cc own nL ret K) {x y off : Int} (hd : decode cc pc = .ok (.if_icmp .gt off, 3)) (ht : (pc : Int) + off = (tgt : Int)) (kt : i32 y < i32 x → GW p l e R s m args below meth c nL A Rp K tv res σ tgt lv st) (kf : ¬ i32 y < i32 x → GW p l e R s m args below meth c nL A Rp K tv res σ (pc + 3) lv st) : GW p l e R s m args below meth c nL A Rp K tv res σ pc lv (J y :: J x :: st) :=
  fun H locs ls hR hS hv => lv_icmp_gt hC.1 hC.2.1 hd ht (fun h => kt ((lt32 y x).mp h) H locs ls hR hS hv) (fun h => kf (fun q => h ((lt32 y x).mpr q)) H locs ls hR hS hv)
theorem gw_if_le (pc tgt : Nat) (hC : GC p s m args meth c cc own nL ret K) {x off : Int} (hd : decode cc pc = .ok (.ifCond .le off, 3)) (ht : (pc : Int) + off = (tgt : Int)) (kt : i32 x ≤ 0 → GW p l e R s m args below meth c nL A Rp K tv res σ tgt lv st) (kf : ¬ i32 x ≤ 0 → GW p l e R s m args below meth c nL A Rp K tv res σ (pc + 3) lv st) : GW p l e R s m args below meth c nL A Rp K tv res σ pc lv (J x :: st) :=
  fun H locs ls hR hS hv => lv_if_le hC.1 hC.2.1 hd ht (fun h => kt ((le320 x).mp h) H locs ls hR hS hv) (fun h => kf (fun q => h ((le320 x).mpr q)) H locs ls hR hS hv)
theorem gw_icmp_le (pc tgt : Nat) (hC : GC p s m args meth c cc own nL ret K) {x y off : Int} (hd : decode cc pc = .ok (.if_icmp .le off, 3)) (ht : (pc : Int) + off = (tgt : Int)) (kt : i32 x ≤ i32 y → GW p l e R s m args below meth c nL A Rp K tv res σ tgt lv st) (kf : ¬ i32 x ≤ i32 y → GW p l e R s m args below meth c nL A Rp K tv res σ (pc + 3) lv st) : GW p l e R s m args below meth c nL A Rp K tv res σ pc lv (J y :: J x :: st) :=
  fun H locs ls hR hS hv => lv_icmp_le hC.1 hC.2.1 hd ht (fun h => kt ((le32 x y).mp h) H locs ls hR hS hv) (fun h => kf (fun q => h ((le32 x y).mpr q)) H locs ls hR hS hv)
theorem gw_lcmp_eq (pc tgt : Nat) (hC : GC p s m args meth c cc own nL ret K) {x y off : Int} (hd : decode cc pc = .ok (.lcmp, 1)) (hd2 : decode cc (pc + 1) = .ok (.ifCond .eq off, 3)) (ht : ((pc + 1 : Nat) : Int) + off = (tgt : Int)) (kt : i64 x = i64 y → GW p l e R s m args below meth c nL A Rp K tv res σ tgt lv st) (kf : ¬ i64 x = i64 y → GW p l e R s m args below meth c nL A Rp K tv res σ (pc + 4) lv st) : GW p l e R s m args below meth c nL A Rp K tv res σ pc lv (Lg y :: Lg x :: st) :=
  fun H locs ls hR hS hv => W.lcmp hC.1 hC.2.1 hd (lv_if_eq hC.1 hC.2.1 hd2 ht (fun h => kt ((eq64 x y).mp ((lg_cmp_eq _ _).mp h)) H locs ls hR hS hv) (fun h => kf (fun q => h ((lg_cmp_eq _ _).mpr ((eq64 x y).mpr q))) H locs ls hR hS hv))
theorem gw_lcmp_ne (pc tgt : Nat) (hC : GC p s m args meth c cc own nL ret K) {x y off : Int} (hd : decode cc pc = .ok (.lcmp, 1)) (hd2 : decode cc (pc + 1) = .ok (.ifCond .ne off, 3)) (ht : ((pc + 1 : Nat) : Int) + off = (tgt : Int)) (kt : ¬ i64 x = i64 y → GW p l e R s m args below meth c nL A Rp K tv res σ tgt lv st) (kf : i64 x = i64 y → GW p l e R s m args below meth c nL A Rp K tv res σ (pc + 4) lv st) : GW p l e R s m args below meth c nL A Rp K tv res σ pc lv (Lg y :: Lg x :: st) :=
  fun H locs ls hR hS hv => W.lcmp hC.1 hC.2.1 hd (lv_if_ne hC.1 hC.2.1 hd2 ht (fun h => kt (fun q => h ((lg_cmp_eq _ _).mpr ((eq64 x y).mpr q))) H locs ls hR hS hv) (fun h => kf ((eq64 x y).mp ((lg_cmp_eq _ _).mp h)) H locs ls hR hS hv))
theorem gw_lcmp_lt (pc tgt : Nat) (hC : GC p s m args meth c cc own nL ret K) {x y off : Int} (hd : decode cc pc = .ok (.lcmp, 1)) (hd2 : decode cc (pc + 1) = .ok (.ifCond .lt off, 3)) (ht : ((pc + 1 : Nat) : Int) + off = (tgt : Int)) (kt : i64 x < i64 y → GW p l e R s m args below meth c nL A Rp K tv res σ tgt lv st) (kf : ¬ i64 x < i64 y → GW p l e R s m args below meth c nL A Rp K tv res σ (pc + 4) lv st) : GW p l e R s m args below meth c nL A Rp K tv res σ pc lv (Lg y :: Lg x :: st) :=
  fun H locs ls hR hS hv => W.lcmp hC.1 hC.2.1 hd (lv_if_lt hC.1 hC.2.1 hd2 ht (fun h => kt ((lt64 x y).mp ((lg_cmp_lt _ _).mp h)) H locs ls hR hS hv) (fun h => kf (fun q => h ((lg_cmp_lt _ _).mpr ((lt64 x y).mpr q))) H locs ls hR hS hv))
theorem gw_lcmp_ge (pc tgt : Nat) (hC : GC p s m args meth c cc own nL ret K) {x y off : Int} (hd : decode cc pc = .ok (.lcmp, 1)) (hd2 : decode cc (pc + 1) = .ok (.ifCond .ge off, 3)) (ht : ((pc + 1 : Nat) : Int) + off = (tgt : Int)) (kt : i64 y ≤ i64 x → GW p l e R s m args below meth c nL A Rp K tv res σ tgt lv st) (kf : ¬ i64 y ≤ i64 x → GW p l e R s m args below meth c nL A Rp K tv res σ (pc + 4) lv st) : GW p l e R s m args below meth c nL A Rp K tv res σ pc lv (Lg y :: Lg x :: st) :=
  fun H locs ls hR hS hv => W.lcmp hC.1 hC.2.1 hd (lv_if_ge hC.1 hC.2.1 hd2 ht (fun h => kt ((le64 y x).mp ((lg_cmp_ge _ _).mp h)) H locs ls hR hS hv) (fun h => kf (fun q => h ((lg_cmp_ge _ _).mpr ((le64 y x).mpr q))) H locs ls hR hS hv))
theorem gw_lcmp_gt (pc tgt : Nat) (hC : GC p s m args meth c cc own nL ret K) {x y off : Int} (hd : decode cc pc = .ok (.lcmp, 1)) (hd2 : decode cc (pc + 1) = .ok (.ifCond .gt off, 3)) (ht : ((pc + 1 : Nat) : Int) + off = (tgt : Int)) (kt : i64 y < i64 x → GW p l e R s m args below meth c nL A Rp K tv res σ tgt lv st) (kf : ¬ i64 y < i64 x → GW p l e R s m args below meth c nL A Rp K tv res σ (pc + 4) lv st) : GW p l e R s m args below meth c nL A Rp K tv res σ pc lv (Lg y :: Lg x :: st) :=
  fun H locs ls hR hS hv => W.lcmp hC.1 hC.2.1 hd (lv_if_gt hC.1 hC.2.1 hd2 ht (fun h => kt ((lt64 y x).mp ((lg_cmp_gt _ _).mp h)) H locs ls hR hS hv) (fun h => kf (fun q => h ((lg_cmp_gt _ _).mpr ((lt64 y x).mpr q))) H locs ls hR hS hv))
theorem gw_lcmp_le (pc tgt : Nat) (hC : GC p s m args meth c cc own nL ret K) {x y off : Int} (hd : decode cc pc = .ok (.lcmp, 1)) (hd2 : decode cc (pc + 1) = .ok (.ifCond .le off, 3)) (ht : ((pc + 1 : Nat) : Int) + off = (tgt : Int)) (kt : i64 x ≤ i64 y → GW p l e R s m args below meth c nL A Rp K tv res σ tgt lv st) (kf : ¬ i64 x ≤ i64 y → GW p l e R s m args below meth c nL A Rp K tv res σ (pc + 4) lv st) : GW p l e R s m args below meth c nL A Rp K tv res σ pc lv (Lg y :: Lg x :: st) :=
  fun H locs ls hR hS hv => W.lcmp hC.1 hC.2.1 hd (lv_if_le hC.1 hC.2.1 hd2 ht (fun h => kt ((le64 x y).mp ((lg_cmp_le _ _).mp h)) H locs ls hR hS hv) (fun h => kf (fun q => h ((lg_cmp_le _ _).mpr ((le64 x y).mpr q))) H locs ls hR hS hv))
theorem bz_J {x : Int} (h : i32 x = 0 ∨ i32 x = 1) : Int32.ofInt x = 0 ∨ Int32.ofInt x = 1 := by
  rcases h with h | h
  · exact Or.inl ((eq320 x).mpr h)
  · exact Or.inr ((eq32 x 1).mpr h)
abbrev bz (x : Int) : Prop := i32 x = 0 ∨ i32 x = 1
theorem bz_narrow {x : Int} (h : bz x) : narrow .boolean (J x) = J x := by
  unfold J
  rcases bz_J h with h | h <;> rw [h] <;> rfl
theorem bz_fits {x : Int} (h : bz x) : fits .boolean (J x) = true := by
  unfold J
  rcases bz_J h with h | h <;> rw [h] <;> rfl
theorem gw_iret (pc : Nat) (hC : GC p s m args meth c cc own nL (some .int) K) {x : Int} (hd : decode cc pc = .ok (.ireturn, 1)) (h : some (x, σ) = some res) : GW p l e R s m args below meth c nL A Rp K 1 res σ pc lv [J x] := by
  intro H locs ls hR hS hv
  cases h
  exact W.iret hC.1 hC.2.1 hC.2.2.1 (fun t ht hW => ⟨rfl, by rw [ht]; exact hR, hC.2.2.2.2.2.2.2.2 _ _ hW.alike hC.2.2.2.2.2.2.2.1, hS.F ht⟩) hS.2.2 hd hC.2.2.2.2.2.2.1
theorem gw_zret (pc : Nat) (hC : GC p s m args meth c cc own nL (some .boolean) K) {x : Int} (hd : decode cc pc = .ok (.ireturn, 1)) (hb : bz x) (h : some (x, σ) = some res) : GW p l e R s m args below meth c nL A Rp K 1 res σ pc lv [J x] := by
  intro H locs ls hR hS hv
  cases h
  exact W.zret hC.1 hC.2.1 hC.2.2.1 (bz_narrow hb) (fun t ht hW => ⟨rfl, by rw [ht]; exact hR, hC.2.2.2.2.2.2.2.2 _ _ hW.alike hC.2.2.2.2.2.2.2.1, hS.F ht⟩) hS.2.2 hd hC.2.2.2.2.2.2.1
theorem gw_lret (pc : Nat) (hC : GC p s m args meth c cc own nL (some .long) K) {x : Int} (hd : decode cc pc = .ok (.lreturn, 1)) (h : some (x, σ) = some res) : GW p l e R s m args below meth c nL A Rp K 2 res σ pc lv [Lg x] := by
  intro H locs ls hR hS hv
  cases h
  exact W.lret hC.1 hC.2.1 hC.2.2.1 (fun t ht hW => ⟨rfl, by rw [ht]; exact hR, hC.2.2.2.2.2.2.2.2 _ _ hW.alike hC.2.2.2.2.2.2.2.1, hS.F ht⟩) hS.2.2 hd hC.2.2.2.2.2.2.1
theorem gw_vret (pc : Nat) (hC : GC p s m args meth c cc own nL none K) (hd : decode cc pc = .ok (.return_, 1)) (h : some ((0 : Int), σ) = some res) : GW p l e R s m args below meth c nL A Rp K 0 res σ pc lv [] := by
  intro H locs ls hR hS hv
  cases h
  exact W.vret hC.1 hC.2.1 hC.2.2.1 (fun t ht hW => ⟨rfl, by rw [ht]; exact hR, hC.2.2.2.2.2.2.2.2 _ _ hW.alike hC.2.2.2.2.2.2.2.1, hS.F ht⟩) hS.2.2 hd hC.2.2.2.2.2.2.1
theorem gw_tableOut (pc tgt : Nat) (hC : GC p s m args meth c cc own nL ret K) {dflt lo hi : Int} {offs : Array Int} {len : Nat} {x : Int} (hd : decode cc pc = .ok (.tableswitch dflt lo hi offs, len)) (h : i32 x < lo ∨ hi < i32 x) (ht : (pc : Int) + dflt = (tgt : Int)) (k : GW p l e R s m args below meth c nL A Rp K tv res σ tgt lv st) : GW p l e R s m args below meth c nL A Rp K tv res σ pc lv (J x :: st) :=
  fun H locs ls hR hS hv => lv_tableOut hC.1 hC.2.1 hd (by rw [toInt_ofInt32]; exact h) ht (k H locs ls hR hS hv)
theorem gw_tableIn (pc tgt : Nat) (v : Int) (hC : GC p s m args meth c cc own nL ret K) {dflt lo hi off : Int} {offs : Array Int} {len : Nat} {x : Int} (hd : decode cc pc = .ok (.tableswitch dflt lo hi offs, len)) (h : i32 x = v) (h1 : lo ≤ v) (h2 : v ≤ hi) (ho : offs[(v - lo).toNat]? = some off) (ht : (pc : Int) + off = (tgt : Int)) (k : GW p l e R s m args below meth c nL A Rp K tv res σ tgt lv st) : GW p l e R s m args below meth c nL A Rp K tv res σ pc lv (J x :: st) :=
  fun H locs ls hR hS hv => lv_tableIn hC.1 hC.2.1 hd (by rw [toInt_ofInt32, h]; omega) (by rw [toInt_ofInt32, h]; omega) (by rw [toInt_ofInt32, h]; exact ho) ht (k H locs ls hR hS hv)
theorem gw_lookup (pc tgt : Nat) (hC : GC p s m args meth c cc own nL ret K) {dflt off : Int} {ps : Array (Int × Int)} {len : Nat} {x : Int} (hd : decode cc pc = .ok (.lookupswitch dflt ps, len)) (hp : (ps.toList.zip (ps.toList.drop 1)).all (fun (a, next) => a.1 < next.1) = true) (ho : Op.lookupswitch.offset ps.toList dflt (i32 x) = off) (ht : (pc : Int) + off = (tgt : Int)) (k : GW p l e R s m args below meth c nL A Rp K tv res σ tgt lv st) : GW p l e R s m args below meth c nL A Rp K tv res σ pc lv (J x :: st) :=
  fun H locs ls hR hS hv => lv_lookup hC.1 hC.2.1 hd hp (by rw [toInt_ofInt32]; exact ho) ht (k H locs ls hR hS hv)
/-- the receiver is an object of class C -/
def isObj (s : State) (C : String) (b : Nat) (H : Heap) : Prop := ∃ cell : Cell, H[b]? = some cell ∧ cell.vm.isStatics = false ∧ s.vm.findClass C = some cell.cls
theorem gPre_blind (hK : KMoved K) {vals : List Value} : FrameBlind (gPre Rp K vals σ) := fun _ U _ _ q => ⟨q.1, q.2.1, hK _ _ (Vm.Alike.refl U.vm) q.2.2⟩
theorem gw_back {H0 H H1 : Heap} {locs L : List Loc} {A : Nat → Prop} (hS : va_S A H0 H locs) (hz : H.size ≤ H1.size) (hk : ∀ q : Nat, q < H.size → ¬ A q → H1[q]? = H[q]?) (hL : ∀ q ∈ L, A q.base) : va_S A H0 H1 (locs ++ L) :=
  ⟨Nat.le_trans hS.1 hz, fun q h1 h2 => by rw [hk q (Nat.lt_of_lt_of_le h1 hS.1) h2]; exact hS.2.1 q h1 h2, fun q hq => by
      rcases List.mem_append.mp hq with h | h
      · exact hS.2.2 q h
      · exact hL q h⟩
theorem gw_callV (pc n : Nat) (hC : GC p s m args meth c cc own nL ret K) {y : MethodName} {C : String} {bytes : ByteArray} {maxL d1 b idx tv1 : Nat} {rt : Option FieldType} {As rest st' : List Value} {z : Int × St}
    (hM : GMet l y bytes maxL rt d1 Rp K A (.ref b :: As) σ tv1 z) (hw : GoodIn lw_all (wsV own idx C y (ws_ y bytes maxL rt)))
    (hd1 : y.cls = C ∧ y.cls ≠ "java/lang/invoke/MethodHandle" ∧ y.cls ≠ "java/lang/invoke/VarHandle" ∧ (parseMethodDescriptor y.desc).map (fun d => d.parameters.length) = some n) (hR : (rmd d1).frames + 1 ≤ R.frames ∧ 8 + (maxL + 11) + (rmd d1).locals ≤ R.locals)
    (hrv : ∀ H, Rp σ H → isObj s C b H) (hn : As.length = n) (hst : st = As.reverse ++ .ref b :: rest) (hW : (rest.map fun v => v.category).sum ≤ 8) (hd : decode cc pc = .ok (.invokevirtual idx, 3)) (hst' : (tvv tv1 z.1).toList ++ rest = st')
    (k : GW p l e R s m args below meth c nL A Rp K tv res z.2 (pc + 3) lv st') : GW p l e R s m args below meth c nL A Rp K tv res σ pc lv st := by
  intro H locs ls hRp hS hv T hT X
  subst hst'
  obtain ⟨hx, hb, -, hml, hown, hts, -, hKs, hKm⟩ := hC
  obtain ⟨v, st₀, t, T', L, h0, X', hL, e1, e2, ⟨hoc, hR1, hK1, hz, hk⟩, stp⟩ := va_runV (g := F0 m pc ls st) (rest := rest) ⟨hx, hb, hml, hown, hts⟩ hM (cwV n hts hw rfl rfl rfl hd1 hR) ⟨gPre_blind hKm, hrv H hRp, fun U hU hW => ⟨rfl, by rw [hU]; exact hRp, hKm _ _ hW.alike hKs⟩⟩ rfl hn hv.1 hst (lv_room hW) hd ⟨Nat.zero_le _, Nat.zero_le _⟩ T hT X
  cases hoc
  rw [h0] at hz hk
  obtain ⟨t2, a1, b1⟩ := k T'.heap (locs ++ L) ls (by rw [e1]; exact hR1) (gw_back hS (by rw [e1]; exact hz) (fun q h1 h2 => by rw [e1]; exact hk q h1 h2) hL) hv T' rfl X'
  exact ⟨t2, stp t2 a1, b1⟩
theorem gw_callS (pc n : Nat) (hC : GC p s m args meth c cc own nL ret K) {y : MethodName} {bytes : ByteArray} {maxL d1 idx tv1 : Nat} {rt : Option FieldType} {As rest st' : List Value} {z : Int × St}
    (hM : GMet l y bytes maxL rt d1 Rp K A As σ tv1 z) (hw : GoodIn lw_all (va_wsS own idx y (ws_ y bytes maxL rt)))
    (hd1 : y.cls ≠ "java/lang/invoke/MethodHandle" ∧ y.cls ≠ "java/lang/invoke/VarHandle" ∧ (parseMethodDescriptor y.desc).map (fun d => d.parameters.length) = some n) (hR : (rmd d1).frames + 1 ≤ R.frames ∧ 8 + (maxL + 11) + (rmd d1).locals ≤ R.locals)
    (hn : As.length = n) (hst : st = As.reverse ++ rest) (hW : (rest.map fun v => v.category).sum ≤ 8) (hd : decode cc pc = .ok (.invokestatic idx, 3)) (hst' : (tvv tv1 z.1).toList ++ rest = st')
    (k : GW p l e R s m args below meth c nL A Rp K tv res z.2 (pc + 3) lv st') : GW p l e R s m args below meth c nL A Rp K tv res σ pc lv st := by
  intro H locs ls hRp hS hv T hT X
  subst hst'
  obtain ⟨hx, hb, -, hml, hown, hts, -, hKs, hKm⟩ := hC
  obtain ⟨v, st₀, t, T', L, h0, X', hL, e1, e2, ⟨hoc, hR1, hK1, hz, hk⟩, stp⟩ := va_runS (g := F0 m pc ls st) (rest := rest) ⟨hx, hb, hml, hown, hts⟩ hM (va_cwS n hts hw rfl rfl rfl hd1 hR) ⟨gPre_blind hKm, fun U hU hW => ⟨rfl, by rw [hU]; exact hRp, hKm _ _ hW.alike hKs⟩⟩ rfl hn hv.1 hst (lv_room hW) hd ⟨Nat.zero_le _, Nat.zero_le _⟩ T hT X
  cases hoc
  rw [h0] at hz hk
  obtain ⟨t2, a1, b1⟩ := k T'.heap (locs ++ L) ls (by rw [e1]; exact hR1) (gw_back hS (by rw [e1]; exact hz) (fun q h1 h2 => by rw [e1]; exact hk q h1 h2) hL) hv T' rfl X'
  exact ⟨t2, stp t2 a1, b1⟩
end GWrows
theorem GMet.of {St : Type} {l : Launch} {y : MethodName} {cc : ByteArray} {nL : Nat} {ret : Option FieldType} {d : Nat} {Rp : St → Heap → Prop} {K : State → Prop} {A : Nat → Prop} {vals : List Value} {σ : St} {tv : Nat} {res : Int × St} (lv : List (Nat × Value)) (hy : plainName y.cls = true) (hK : KMoved K) (hlen : (lg_sl vals).length ≤ nL) (hlv : lv_args 0 vals = lv)
    (body : ∀ (p : Program) (e : Env) (s : State) (m : MethodId) (args : Array Value) (below : List Frame) (meth : Method) (c : Code), GC p s m args meth c cc y.cls nL ret K → GW p l e (rmd d) s m args below meth c nL A Rp K tv res σ 0 lv []) : GMet l y cc nL ret d Rp K A vals σ tv res := by
  refine Met.ofW (cc := cc) (maxL := nL) (ret := ret) hy rfl ?_
  intro p e s m args below meth c s₁ B hml hv
  obtain ⟨rfl, hR, hKs⟩ := hv
  have hts := atoms_spec (ws := ws_ y cc nL ret) B.pre
  have hts : ∀ w ∈ lw_all, w.before _ s = true := fun w h => hts w (List.mem_cons_of_mem _ h)
  have hown : s.vm.findClass y.cls = some m.cls := findClass_of_methodNamed B.named
  have hl := lv_entry vals (n := nL) hlen
  rw [lg_entry_eq]
  rw [hlv] at hl
  exact body p e s m _ below meth c ⟨B.exec, B.bytes, B.returns, hml, hown, hts, B.notSynchronized, hKs, hK⟩ s.heap [] _ hR va_S.rf hl
