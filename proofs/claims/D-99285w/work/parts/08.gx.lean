/-! THE FRAME OF THE SYSTEM's WALK: typed cells. XS: cell c (address x0 + c; null -1; older cells from -2 down), slot i -> a number; slot -1 the tag, slot -2 the length of an array; cell -1: slot 0 how many cells, slot 1 how many slots there are -/
set_option maxRecDepth 100000
abbrev XS : Type := Int → Int → Int
def ux (τ : XS) (c i x : Int) : XS := fun c' i' => if c' = c ∧ i' = i then x else τ c' i'
theorem ux_s (τ : XS) (c i x : Int) : ux τ c i x c i = x := by simp [ux]
theorem ux_c (τ : XS) {c c' : Int} (i x j : Int) (h : c' ≠ c) : ux τ c i x c' j = τ c' j := by simp [ux, h]
theorem ux_i (τ : XS) (c c' : Int) {i j : Int} (x : Int) (h : j ≠ i) : ux τ c i x c' j = τ c' j := by simp [ux, h]
def ad (x0 : Nat) (c : Int) : Nat := if 0 ≤ c then x0 + c.toNat else ((x0 : Int) + c + 1).toNat
def rf (x0 : Nat) (r : Int) : Value := if r = -1 then .null else .ref (ad x0 r)
theorem rf_ne {x0 : Nat} {r : Int} (h : r ≠ -1) : rf x0 r = .ref (ad x0 r) := if_neg h
theorem rf_nu {x0 : Nat} : rf x0 (-1) = .null := if_pos rfl
theorem rf_cat (x0 : Nat) (r : Int) : (rf x0 r).category = 1 := by unfold rf; split <;> rfl
def xcl : List vw_C := [(RX0, TX0, 24), (RX1, TX1, 9), (RX2, TX2, 8), (RX3, TX3, 8), (RX4, TX4, 1), (RX5, TX5, 6), (RX6, TX6, 9), (RX7, TX7, 10), (RX10, TX10, 4), (RX11, TX11, 3), (RX13, TX13, 2), (RX14, TX14, 1), (RX15, fun _ => ("", "", "", false), 0), (RX17, TX17, 2), (RX18, TX18, 3), (RX19, TX19, 1), (RX20, TX20, 1), (RX21, TX21, 3), (RX22, TX22, 3), (RX23, TX23, 5), (RJ2, TJ2, 3), (RJ6, TJ6, 4), (RJ15, TJ15, 4), (RX8, TX8, 108)]
def xfk : List (List (Nat × Nat × Int)) := [[(3, 0, 0), (3, 1, 6), (0, 0, 0), (0, 0, 0), (0, 0, 0), (3, 1, 7), (3, 1, 9), (3, 1, 11), (3, 1, 13), (3, 1, 14), (3, 1, 19), (3, 1, 36), (3, 1, 99), (3, 1, 162), (3, 1, 163), (3, 1, 164), (0, 0, 0), (3, 1, 165), (3, 1, 176), (0, 0, 0), (2, 0, 0), (0, 0, 0), (3, 1, 1437), (0, 0, 0)], [(0, 0, 0), (0, 0, 0), (0, 0, 0), (0, 0, 0), (3, 0, 0), (3, 0, 0), (3, 0, 0), (3, 0, 0), (3, 0, 0)], [(3, 1, 8), (0, 0, 0), (0, 0, 0), (0, 0, 0), (0, 0, 0), (0, 0, 0), (3, 0, 0), (3, 1, 0)], [(3, 0, 0), (3, 0, 0), (3, 0, 0), (3, 0, 0), (3, 0, 0), (0, 0, 0), (0, 0, 0), (0, 0, 0)], [(3, 2, 1)], [(3, 2, 1), (3, 2, 2), (3, 2, 3), (3, 2, 4), (0, 0, 0), (3, 1, 0)], [(3, 2, 1), (3, 2, 8), (3, 2, 15), (3, 2, 16), (0, 0, 0), (1, 0, 0), (2, 0, 0), (0, 0, 0), (3, 1, 0)], [(0, 0, 0), (0, 0, 0), (0, 0, 0), (3, 2, 1), (3, 2, 2), (3, 2, 3), (3, 2, 4), (3, 2, 5), (3, 2, 12), (3, 1, 0)], [(3, 0, 0), (0, 0, 0), (0, 0, 0), (0, 0, 0)], [(3, 0, 0), (0, 0, 0), (0, 0, 0)], [(3, 0, 0), (1, 0, 0)], [(3, 0, 0)], [], [(3, 0, 0), (3, 0, 0)], [(1, 0, 0), (3, 0, 0), (3, 0, 0)], [(2, 0, 0)], [(0, 0, 0)], [(0, 0, 0), (3, 0, 0), (3, 0, 0)], [(3, 0, 0), (3, 0, 0), (0, 0, 0)], [(0, 0, 0), (3, 0, 0), (3, 0, 0), (2, 0, 0), (1, 0, 0)], [(0, 0, 0), (3, 0, 0), (0, 0, 0)], [(3, 0, 0), (4, 0, 0), (0, 0, 0), (1, 0, 0)], [(3, 0, 0), (4, 0, 0), (1, 0, 0), (0, 0, 0)], [(3, 0, 0), (0, 0, 0), (0, 0, 0), (0, 0, 0), (0, 0, 0), (0, 0, 0), (0, 0, 0), (0, 0, 0), (0, 0, 0), (3, 0, 0), (3, 0, 0), (3, 0, 0), (3, 0, 0), (3, 0, 0), (3, 0, 0), (3, 0, 0), (3, 0, 0), (3, 0, 0), (3, 0, 0), (3, 0, 0), (3, 0, 0), (3, 0, 0), (3, 0, 0), (3, 0, 0), (3, 0, 0), (3, 0, 0), (3, 0, 0), (3, 0, 0), (3, 0, 0), (3, 0, 0), (3, 0, 0), (3, 0, 0), (3, 0, 0), (3, 0, 0), (0, 0, 0), (3, 0, 0), (3, 0, 0), (3, 0, 0), (3, 0, 0), (3, 0, 0), (0, 0, 0), (3, 0, 0), (3, 0, 0), (3, 0, 0), (0, 0, 0), (0, 0, 0), (1, 0, 0), (0, 0, 0), (3, 0, 0), (3, 0, 0), (0, 0, 0), (3, 0, 0), (3, 0, 0), (3, 0, 0), (3, 0, 0), (1, 0, 0), (2, 0, 0), (3, 0, 0), (3, 0, 0), (0, 0, 0), (1, 0, 0), (0, 0, 0), (3, 0, 0), (3, 0, 0), (0, 0, 0), (3, 0, 0), (3, 0, 0), (3, 0, 0), (0, 0, 0), (3, 0, 0), (0, 0, 0), (0, 0, 0), (2, 0, 0), (3, 0, 0), (3, 0, 0), (3, 0, 0), (3, 0, 0), (3, 0, 0), (3, 0, 0), (3, 0, 0), (3, 0, 0), (3, 0, 0), (3, 0, 0), (3, 0, 0), (3, 0, 0), (3, 0, 0), (3, 0, 0), (3, 0, 0), (3, 0, 0), (3, 0, 0), (3, 0, 0), (3, 0, 0), (3, 0, 0), (3, 0, 0), (3, 0, 0), (3, 0, 0), (3, 0, 0), (0, 0, 0), (3, 0, 0), (0, 0, 0), (0, 0, 0), (0, 0, 0), (3, 0, 0), (0, 0, 0), (2, 0, 0), (1, 0, 0), (3, 0, 0), (0, 0, 0)]]
def fk (t k : Nat) : Nat × Nat × Int := ((xfk.getD (t - 1) []).getD k (0, 0, 0))
/-- field k of the cell c of tag t: const references where the system stands (b) -/
def fvl (b : Bool) (x0 : Nat) (t k : Nat) (c : Int) (f : Int → Int) : Value := match fk t k with
  | (2, _, _) => Lg (f k)
  | (3, 0, _) => rf x0 (f k)
  | (3, 1, a) => if b then rf x0 a else rf x0 (f k)
  | (3, _, a) => if b then rf x0 (c + a) else rf x0 (f k)
  | _ => J (f k)
/-- place j of the array c of tag t -/
def evl (b : Bool) (x0 : Nat) (t : Nat) (c j : Int) (v : Int) : Value := match t with
  | 104 => Lg v
  | 110 => rf x0 v
  | 111 => rf x0 v
  | 114 => rf x0 v
  | 115 => rf x0 v
  | 112 => if b then rf x0 (c + 1 + j) else rf x0 v
  | 113 => if b then rf x0 (c + 1 + j) else rf x0 v
  | 121 => if b then rf x0 (c + 1 + j) else rf x0 v
  | _ => J v
def rtg (r : Int) : Nat := if r = 0 then 8 else if r ≤ 4 then 101 else if r = 5 then 121 else if r ≤ 11 then 101 else if r = 12 then 111 else 101
def rln (r : Int) : Int := if r ≤ 5 then 6 else if r ≤ 11 then 7 else if r = 12 then 50 else 3
def stl1 : List (Nat × Int) := [(1, 0), (0, 0), (0, 0), (0, 0), (0, 0), (0, 0), (102, 1600), (3, 0), (4, 0), (5, 0), (104, 9), (5, 0), (104, 9), (101, 6), (6, 0), (101, 6), (101, 6), (101, 6), (101, 6), (7, 0), (112, 6), (103, 7), (103, 7), (103, 7), (103, 7), (103, 7), (103, 7), (113, 6), (104, 7), (104, 7), (104, 7), (104, 7), (104, 7), (104, 7), (101, 6), (101, 6)]
def stl2 : List (Nat × Int) := [(101, 16), (101, 16), (101, 16), (121, 10), (101, 21), (101, 21), (101, 21), (101, 21), (101, 21), (101, 21), (101, 21), (101, 21), (101, 21), (101, 21), (114, 20)]
/-- the standing cells: tag and length -/
def stc (c : Int) : Nat × Int := if 36 ≤ c ∧ c < 162 then (rtg ((c - 36) % 63), rln ((c - 36) % 63)) else if 177 ≤ c ∧ c < 1437 then (rtg ((c - 177) % 63), rln ((c - 177) % 63)) else if 0 ≤ c ∧ c < 36 then stl1.getD c.toNat (0, 0) else if 162 ≤ c ∧ c < 177 then stl2.getD (c - 162).toNat (0, 0) else if c = 1437 then (102, 70) else (0, 0)
def tg (b : Bool) (τ : XS) (c : Int) : Nat := if b = true ∧ (stc c).1 ≠ 0 then (stc c).1 else if b = true ∧ 1438 ≤ c ∧ c < 1514 then 0 else (τ c (-1)).toNat
def ln (b : Bool) (τ : XS) (c : Int) : Int := if b = true ∧ (stc c).1 ≠ 0 then (stc c).2 else τ c (-2)
/-- classes' numbers, their slots, array classes, where constants lie -/
abbrev XD : Type := (Nat → ClassId) × (Nat → Nat → Nat) × (Nat → ClassId) × (Nat → Int)
/-- what the heap holds at a cell -/
def COK (b : Bool) (x0 : Nat) (D : XD) (t : Nat) (n c : Int) (f : Int → Int) (H : Heap) : Prop :=
  if t < 100 then ∃ q : vw_C, xcl[t - 1]? = some q ∧ t_OB (ad x0 c) (D.1 (t - 1)) q.2.2 (D.2.1 (t - 1)) H (fun k => fvl b x0 t k c f)
  else 0 ≤ n ∧ H[ad x0 c]? = some (arrV (D.2.2.1 t) n.toNat (fun j => evl b x0 t c j (f j)))
def nC (τ : XS) : Nat := (τ (-1) 0).toNat
def nS (τ : XS) : Nat := (τ (-1) 1).toNat
def leX (τ τ' : XS) : Prop := nC τ ≤ nC τ' ∧ nS τ ≤ nS τ'
def XRp (b : Bool) (x0 : Nat) (D : XD) (τ : XS) (H : Heap) : Prop := 0 < x0 ∧ 0 ≤ τ (-1) 0 ∧ 0 ≤ τ (-1) 1 ∧ ((b = true → 1514 ≤ τ (-1) 0) ∧ ∀ k : Nat, τ (-1) (100 + k) = D.2.2.2 k) ∧ H.size = x0 + nC τ ∧ ∀ c : Int, tg b τ c ≠ 0 → c < τ (-1) 0 ∧ c ≠ -1 ∧ COK b x0 D (tg b τ c) (ln b τ c) c (τ c) H
/-- words of the tables that hold all through a run, but not in every method's list -/
def nwok : Cond → Bool
  | .fieldLinkNest _ _ _ _ _ _ => true
  | .methodLinkNest _ _ _ _ => true
  | .castable _ _ => true
  | .declares _ => true
  | _ => false
def arrK : List (Nat × FieldType) := [(101, .int), (102, .byte), (103, .boolean), (104, .long), (105, .char), (110, .object "java/lang/Object"), (111, .array .int), (121, .array .int), (112, .array .boolean), (113, .array .long), (114, .object "VerbAtDusk$State"), (115, .object "java/lang/String")]
/-- the addresses of the system: all new ones but the reference's -/
def XA (x0 : Nat) : Nat → Prop := fun q => x0 ≤ q ∧ ¬ (x0 + 1438 ≤ q ∧ q < x0 + 1514)
/-- statics: what they hold -/
def X6 (x0 : Nat) (D : XD) : List (String × String × String × Value) := [("java/lang/String", "COMPACT_STRINGS", "Z", J 1), ("VerbAtDusk", "OWN", "[Ljava/lang/String;", rf x0 (D.2.2.2 0)), ("VerbAtDusk", "ASKED", "[Ljava/lang/String;", rf x0 (D.2.2.2 1)), ("VerbAtDusk", "LOOKED", "[Ljava/lang/String;", rf x0 (D.2.2.2 2)), ("VerbAtDusk", "TOLD_OF", "[Ljava/lang/String;", rf x0 (D.2.2.2 3)), ("jdk/internal/util/Preconditions", "SIOOBE_FORMATTER", "Ljava/util/function/BiFunction;", rf x0 (D.2.2.2 6)), ("java/lang/Throwable", "UNASSIGNED_STACK", "[Ljava/lang/StackTraceElement;", rf x0 (D.2.2.2 7)), ("java/lang/Throwable", "SUPPRESSED_SENTINEL", "Ljava/util/List;", rf x0 (D.2.2.2 8))]
def X6K (x0 : Nat) (D : XD) (U : State) : Prop := ∀ q ∈ X6 x0 D, va_Z q.1 q.2.1 q.2.2.1 q.2.2.2 (XA x0) U U.heap
theorem X6K.moved {x0 : Nat} {D : XD} {u U : State} (hvm : u.vm.Alike U.vm) (hF : va_F (XA x0) u U) (h : X6K x0 D u) : X6K x0 D U := fun q hq => ((h q hq).moved hvm).kept hF.2
/-- arrays of int arrays: what their class is made of -/
def X2D (D : XD) (U : State) : Prop := (∃ kA : Class, U.vm.classes[D.2.2.1 111]? = some kA ∧ kA.kind = .array (D.2.2.1 101) (.array .int)) ∧ (∃ k1 : Class, U.vm.classes[D.2.2.1 101]? = some k1) ∧ D.2.2.1 121 = D.2.2.1 111
theorem X2D.moved {D : XD} {u U : State} (hvm : u.vm.Alike U.vm) (h : X2D D u) : X2D D U := by
  obtain ⟨⟨kA, h1, h2⟩, ⟨k1, h3⟩, h4⟩ := h
  obtain ⟨k', hk', he⟩ := hvm.2.2 _ _ h1
  obtain ⟨k2, hk2, -⟩ := hvm.2.2 _ _ h3
  exact ⟨⟨k', hk', by rw [he]; exact h2⟩, ⟨k2, hk2⟩, h4⟩
/-- calls by an interface: the list's methods -/
def xfw : List (MethodName × MethodName) := [(⟨"java/util/List", "size", "()I"⟩, yJ2_size), (⟨"java/util/List", "get", "(I)Ljava/lang/Object;"⟩, yJ2_get), (⟨"java/util/List", "add", "(Ljava/lang/Object;)Z"⟩, yJ2_add)]
theorem xfw_ok : ∀ q ∈ xfw, q.1.cls ≠ "java/lang/invoke/MethodHandle" ∧ q.1.cls ≠ "java/lang/invoke/VarHandle" := by decide +kernel
/-- the reader's String constants: where they lie (by the number of a constant) -/
def xsc : List (Nat × String × Nat) := [(117, "dusk", 20), (143, "saying", 21), (145, "verb", 22), (147, "lent", 23), (160, "at", 24), (166, "tone", 25), (177, "kind", 26), (180, "mild", 27), (203, "takes", 28), (205, "well", 29), (207, "turns", 30), (209, "ditch", 31), (298, "not", 32), (305, "all", 33), (273, "min", 34), (275, "max", 35), (296, "and", 36), (288, "or", 37)]
def va_AA (t : FieldType) (U : State) : Prop := (Cond.arrayOver (.array t)).before #[] U = true
theorem va_AA.moved {t : FieldType} {u U : State} (hvm : u.vm.Alike U.vm) (h : va_AA t u) : va_AA t U := by
  obtain ⟨comp, c, k, h1, h2, h3, h4, h5⟩ := arrayOverA_spec h
  obtain ⟨k', hk', he⟩ := hvm.2.2 _ _ h3
  have hi : (U.vm.classes.findIdx? fun (x : Class) => match x.kind with | .array component _ => component == comp | _ => false) = some c := by
    have eb : U.vm.bare = u.vm.bare := by first | exact hvm.bare_eq | exact hvm.bare_eq.symm
    exact ((va_idx_bare U.vm comp).symm.trans ((congrArg (fun v : Vm => v.classes.findIdx? fun (x : Class) => match x.kind with | .array component _ => component == comp | _ => false) eb).trans (va_idx_bare u.vm comp))).trans h2
  have hkind : k'.kind = .array comp (.array t) := by rw [he]; exact h4
  have f1 : U.vm.findClass (FieldType.array t).toString = some comp := by rw [hvm.findClass]; exact h1
  have f2 : U.vm.findClass ("[" ++ (FieldType.array t).toString) = some c := by rw [hvm.findClass]; exact h5
  unfold va_AA Cond.before Cond.holds
  simp only [Cond.value]
  rw [f1, Option.bind_some]
  refine (congrArg (fun o : Option Nat => (o.bind (fun c => (U.vm.classes[c]?).map fun (k : Class) => match k.kind with | .array _ ty => decide (ty = FieldType.array t) && decide (U.vm.findClass ("[" ++ (FieldType.array t).toString) = some c) | _ => false) == some true)) hi).trans ?_
  simp [hk', hkind, f2]
theorem x_prAt {y : MethodName} {u U : State} (h : u.vm.Alike U.vm) (hp : u.PrivateAt y) : U.PrivateAt y := fun mk meth h1 h2 => hp mk meth (by
    have e := State.methodNamed?_setVm (s := u) h y
    have e2 : (u.setVm U.vm).methodNamed? y = U.methodNamed? y := rfl
    rw [← e, e2]
    exact h1) (by rw [← h.method?]; exact h2)
/-- String constants, the class object of Object[], arrays of arrays -/
def XK9 (x0 : Nat) (D : XD) (U : State) : Prop := (∀ q ∈ xsc, vk_R RX2 q.1 q.2.1 (ad x0 (D.2.2.2 q.2.2)) U) ∧ va_Mi "[Ljava/lang/Object;" (ad x0 (D.2.2.2 9)) U ∧ (va_AA .int U ∧ va_AA .boolean U ∧ va_AA .long U) ∧ U.PrivateAt yJ14_newCapacity ∧ U.PrivateAt yJ14_ensureCapacityInternal
theorem XK9.warm {x0 : Nat} {D : XD} {u U : State} (hW : u.WarmedH U.vm) (h : XK9 x0 D u) : XK9 x0 D U := ⟨fun q hq => (h.1 q hq).warm hW, h.2.1.moved hW.alike, ⟨h.2.2.1.1.moved hW.alike, h.2.2.1.2.1.moved hW.alike, h.2.2.1.2.2.moved hW.alike⟩, x_prAt hW.alike h.2.2.2.1, x_prAt hW.alike h.2.2.2.2⟩
theorem XK9.same {x0 : Nat} {D : XD} {u U : State} (hv : u.vm = U.vm) (h : XK9 x0 D u) : XK9 x0 D U := by
  have ha : u.vm.Alike U.vm := by rw [hv]; exact Vm.Alike.refl _
  exact ⟨fun q hq => (h.1 q hq).same hv.symm, h.2.1.moved ha, ⟨h.2.2.1.1.moved ha, h.2.2.1.2.1.moved ha, h.2.2.1.2.2.moved ha⟩, x_prAt ha h.2.2.2.1, x_prAt ha h.2.2.2.2⟩
def XK (x0 : Nat) (D : XD) (U : State) : Prop := (∀ (ci : Nat) (q : vw_C), xcl[ci]? = some q → u_Kn U q.1 q.2.1 q.2.2 (D.1 ci) (D.2.1 ci)) ∧ (∀ q ∈ arrK, ArrOfT U (D.2.2.1 q.1) q.2 ∧ va_RA U (D.2.2.1 q.1) q.2) ∧ (∀ w ∈ lw_tbl, nwok w = true → va_Nw w U) ∧ (∀ q ∈ xfw, va_Fw RJ2 q.1 q.2 U) ∧ X2D D U ∧ X6K x0 D U ∧ va_AO "java/lang/Object" U ∧ va_AO "VerbAtDusk$State" U ∧ XK9 x0 D U
theorem nw_warm {w : Cond} (h : nwok w = true) {s U : State} (hW : s.WarmedH U.vm) (hZ : va_Nw w s) : va_Nw w U := by
  cases w with
  | fieldLinkNest a i b n d h => exact va_Nw.warmF hW hZ
  | methodLinkNest a i x h => exact va_Nw.warmM hW hZ
  | castable C T => exact va_Nw.warmC hW hZ
  | declares x => exact va_Nw.warmD hW hZ
  | _ => cases h
theorem nw_tab {w : Cond} (h : nwok w = true) : w.onTables = true := by
  cases w with
  | fieldLinkNest a i b n d h => rfl
  | methodLinkNest a i x h => rfl
  | castable C T => rfl
  | declares x => rfl
  | _ => cases h
theorem XK_warm {x0 : Nat} {D : XD} {u U : State} (hW : u.WarmedH U.vm) (hF : va_F (XA x0) u U) (h : XK x0 D u) : XK x0 D U :=
  ⟨fun ci q hq => u_Kn_moved hW.alike (h.1 ci q hq), fun q hq => ⟨arrOfT_moved hW.alike (h.2.1 q hq).1, (h.2.1 q hq).2.moved hW.alike⟩, fun w hw hn => nw_warm hn hW (h.2.2.1 w hw hn), fun q hq => (h.2.2.2.1 q hq).moved (xfw_ok q hq) hW.alike, h.2.2.2.2.1.moved hW.alike, h.2.2.2.2.2.1.moved hW.alike hF, h.2.2.2.2.2.2.1.moved hW.alike, h.2.2.2.2.2.2.2.1.moved hW.alike, h.2.2.2.2.2.2.2.2.warm hW⟩
theorem XK_same {x0 : Nat} {D : XD} {u U : State} (hv : u.vm = U.vm) (hh : u.heap = U.heap) (h : XK x0 D u) : XK x0 D U := by
  have ha : u.vm.Alike U.vm := by rw [hv]; exact Vm.Alike.refl _
  exact ⟨fun ci q hq => u_Kn_moved ha (h.1 ci q hq), fun q hq => ⟨arrOfT_moved ha (h.2.1 q hq).1, (h.2.1 q hq).2.moved ha⟩, fun w hw hn => (h.2.2.1 w hw hn).same (nw_tab hn) hv, fun q hq => (h.2.2.2.1 q hq).moved (xfw_ok q hq) ha, h.2.2.2.2.1.moved ha, h.2.2.2.2.2.1.moved ha ⟨Nat.le_of_eq (by rw [hh]), fun _ _ _ => by rw [hh]⟩, h.2.2.2.2.2.2.1.moved ha, h.2.2.2.2.2.2.2.1.moved ha, h.2.2.2.2.2.2.2.2.same hv⟩
def tvx (x0 : Nat) (tv : Nat) (r : Int) : Option Value := match tv with
  | 0 => none
  | 1 => some (J r)
  | 2 => some (Lg r)
  | _ => some (.ref (ad x0 r))
abbrev RX : Type := Int × Int × XS
def xPre (b : Bool) (x0 : Nat) (D : XD) (vals : List Value) (τ : XS) : Array Value → State → Prop := fun v U => v = vals.toArray ∧ XRp b x0 D τ U.heap ∧ XK x0 D U
def xPost (b : Bool) (x0 : Nat) (D : XD) (tv : Nat) (res : RX) : Array Value → State → Outcome → State → Prop := fun _ st oc t => res.1 = 0 ∧ oc = .returned (tvx x0 tv res.2.1) ∧ XRp b x0 D res.2.2 t.heap ∧ XK x0 D t ∧ va_F (XA x0) st t
def xExc (b : Bool) (x0 : Nat) (D : XD) (res : RX) : Addr → String → State → State → Prop := fun q E st t => res.1 = 1 ∧ q = ad x0 8 ∧ E = RX3 ∧ XRp b x0 D res.2.2 t.heap ∧ XK x0 D t ∧ va_F (XA x0) st t
def rmx (d c s : Nat) : Room := { frames := d, cells := c, slots := s, locals := 80 * d }
def XMet (l : Launch) (y : MethodName) (cc : ByteArray) (nL : Nat) (ret : Option FieldType) (d : Nat) (b : Bool) (x0 : Nat) (D : XD) (vals : List Value) (τ : XS) (tv : Nat) (res : RX) : Prop :=
  leX τ res.2.2 ∧ vq_Met l y (ws_ y cc nL ret) (rmx d (nC res.2.2 - nC τ) (nS res.2.2 - nS τ)) (xPre b x0 D vals τ) (xPost b x0 D tv res) (xExc b x0 D res) (nC res.2.2 - nC τ) (nS res.2.2 - nS τ) (XA x0)
def XC (p : Program) (s : State) (m : MethodId) (args : Array Value) (meth : Method) (c : Code) (cc : ByteArray) (own : String) (nL : Nat) (ret : Option FieldType) (mn : String) (xt : List ExceptionTableEntry) (x0 : Nat) (D : XD) : Prop :=
  p.tables.exec = Jvm.exec ∧ c.code = cc ∧ meth.sig.returnType = ret ∧ c.maxLocals = nL ∧ s.vm.findClass own = some m.cls ∧ (∀ w ∈ lw_all, w.before args s = true) ∧ meth.locks = false ∧ XK x0 D s ∧ meth.name = mn ∧ c.exceptionTable.toList = xt
def GX (l : Launch) (cc : ByteArray) (own : String) (nL : Nat) (ret : Option FieldType) (mn : String) (xt : List ExceptionTableEntry) (x0 : Nat) (D : XD) (b : Bool) (tv dp c0 s0 : Nat) (res : RX) (σ : XS) (pc : Nat) (lv : List (Nat × Value)) (st : List Value) : Prop :=
  leX σ res.2.2 ∧ ∀ (p : Program) (e : Env) (s : State) (m : MethodId) (args : Array Value) (below : List Frame) (meth : Method) (c : Code), XC p s m args meth c cc own nL ret mn xt x0 D → ∀ (H : Heap) (locs : List Loc) (ls : Array Slot), XRp b x0 D σ H → va_S (XA x0) s.heap H locs → lv_has ls nL lv → c0 ≤ nC σ → s0 ≤ nS σ → W p l e (rmx dp (nC res.2.2 - c0) (nS res.2.2 - s0)) s m args below meth c H locs (nC σ - c0) (nS σ - s0) (vq_MQ below (xPost b x0 D tv res) (xExc b x0 D res) args s (nC res.2.2 - c0) (nS res.2.2 - s0) (XA x0)) (F0 m pc ls st)
section GXrows
variable {p : Program} {l : Launch} {e : Env} {s : State} {m : MethodId} {args : Array Value} {below : List Frame} {meth : Method} {c : Code} {nL x0 : Nat} {D : XD} {b : Bool} {tv dp c0 s0 : Nat} {res : RX} {σ : XS} {lv : List (Nat × Value)} {st : List Value} {cc : ByteArray} {own mn : String} {xt : List ExceptionTableEntry} {ret : Option FieldType}
theorem gx_sub (ks : List Nat) {lv' : List (Nat × Value)} {pc : Nat} (hl : lv_pick lv ks = lv') (k : GX l cc own nL ret mn xt x0 D b tv dp c0 s0 res σ pc lv' st) : GX l cc own nL ret mn xt x0 D b tv dp c0 s0 res σ pc lv st :=
  ⟨k.1, fun p e s m args below meth c hC H locs ls hR hS hv z1 z2 => k.2 p e s m args below meth c hC H locs ls hR hS (lv_sub hv ks hl) z1 z2⟩
theorem gx_iconst (pc : Nat) {n : Int} (hd : decode cc pc = .ok (.iconst n, 1)) (k : GX l cc own nL ret mn xt x0 D b tv dp c0 s0 res σ (pc + 1) lv (J n :: st)) : GX l cc own nL ret mn xt x0 D b tv dp c0 s0 res σ pc lv st :=
  ⟨k.1, fun p e s m args below meth c hC H locs ls hR hS hv z1 z2 => lv_iconst hC.1 hC.2.1 hd rfl (k.2 p e s m args below meth c hC H locs ls hR hS hv z1 z2)⟩
theorem gx_bipush (pc : Nat) {n : Int} (hd : decode cc pc = .ok (.bipush n, 2)) (hn : (Int8.ofInt n).toInt32 = Int32.ofInt n) (k : GX l cc own nL ret mn xt x0 D b tv dp c0 s0 res σ (pc + 2) lv (J n :: st)) : GX l cc own nL ret mn xt x0 D b tv dp c0 s0 res σ pc lv st :=
  ⟨k.1, fun p e s m args below meth c hC H locs ls hR hS hv z1 z2 => lv_bipush hC.1 hC.2.1 hd hn (k.2 p e s m args below meth c hC H locs ls hR hS hv z1 z2)⟩
theorem gx_sipush (pc : Nat) {n : Int} (hd : decode cc pc = .ok (.sipush n, 3)) (hn : (Int16.ofInt n).toInt32 = Int32.ofInt n) (k : GX l cc own nL ret mn xt x0 D b tv dp c0 s0 res σ (pc + 3) lv (J n :: st)) : GX l cc own nL ret mn xt x0 D b tv dp c0 s0 res σ pc lv st :=
  ⟨k.1, fun p e s m args below meth c hC H locs ls hR hS hv z1 z2 => lv_sipush hC.1 hC.2.1 hd hn (k.2 p e s m args below meth c hC H locs ls hR hS hv z1 z2)⟩
theorem gx_lconst (pc : Nat) {n : Fin 2} {v : Int} (hd : decode cc pc = .ok (.lconst n, 1)) (hn : Int64.ofNat (n : Nat) = Int64.ofInt v) (k : GX l cc own nL ret mn xt x0 D b tv dp c0 s0 res σ (pc + 1) lv (Lg v :: st)) : GX l cc own nL ret mn xt x0 D b tv dp c0 s0 res σ pc lv st :=
  ⟨k.1, fun p e s m args below meth c hC H locs ls hR hS hv z1 z2 => lv_lconst hC.1 hC.2.1 hd hn (k.2 p e s m args below meth c hC H locs ls hR hS hv z1 z2)⟩
theorem gx_ldc2 (pc : Nat) {idx : Nat} {w : Int64} {v : Int} (hd : decode cc pc = .ok (.ldc2_w idx, 3)) (hq : Cond.constantLong own idx w ∈ lw_all) (hn : w = Int64.ofInt v) (k : GX l cc own nL ret mn xt x0 D b tv dp c0 s0 res σ (pc + 3) lv (Lg v :: st)) : GX l cc own nL ret mn xt x0 D b tv dp c0 s0 res σ pc lv st :=
  ⟨k.1, fun p e s m args below meth c hC H locs ls hR hS hv z1 z2 => lv_ldc2 hC.1 hC.2.1 hC.2.2.2.2.1 (hC.2.2.2.2.2.1 _ hq) hd (by rw [hn]; exact k.2 p e s m args below meth c hC H locs ls hR hS hv z1 z2)⟩
theorem gx_iload_n (pc q : Nat) {i : Fin 4} {x : Int} (hd : decode cc pc = .ok (.iload_n i, 1)) (hq : lv[q]? = some ((i : Nat), J x)) (k : GX l cc own nL ret mn xt x0 D b tv dp c0 s0 res σ (pc + 1) lv (J x :: st)) : GX l cc own nL ret mn xt x0 D b tv dp c0 s0 res σ pc lv st :=
  ⟨k.1, fun p e s m args below meth c hC H locs ls hR hS hv z1 z2 => lv_iload_n hC.1 hC.2.1 hd rfl (lv_at hv q hq) (k.2 p e s m args below meth c hC H locs ls hR hS hv z1 z2)⟩
theorem gx_iload (pc q : Nat) {i : Nat} {x : Int} (hd : decode cc pc = .ok (.iload i, 2)) (hq : lv[q]? = some (i, J x)) (k : GX l cc own nL ret mn xt x0 D b tv dp c0 s0 res σ (pc + 2) lv (J x :: st)) : GX l cc own nL ret mn xt x0 D b tv dp c0 s0 res σ pc lv st :=
  ⟨k.1, fun p e s m args below meth c hC H locs ls hR hS hv z1 z2 => lv_iload hC.1 hC.2.1 hd (lv_at hv q hq) (k.2 p e s m args below meth c hC H locs ls hR hS hv z1 z2)⟩
theorem gx_lload_n (pc q : Nat) {i : Fin 4} {x : Int} (hd : decode cc pc = .ok (.lload_n i, 1)) (hq : lv[q]? = some ((i : Nat), Lg x)) (k : GX l cc own nL ret mn xt x0 D b tv dp c0 s0 res σ (pc + 1) lv (Lg x :: st)) : GX l cc own nL ret mn xt x0 D b tv dp c0 s0 res σ pc lv st :=
  ⟨k.1, fun p e s m args below meth c hC H locs ls hR hS hv z1 z2 => lv_lload_n hC.1 hC.2.1 hd rfl (lv_at hv q hq) (k.2 p e s m args below meth c hC H locs ls hR hS hv z1 z2)⟩
theorem gx_lload (pc q : Nat) {i : Nat} {x : Int} (hd : decode cc pc = .ok (.lload i, 2)) (hq : lv[q]? = some (i, Lg x)) (k : GX l cc own nL ret mn xt x0 D b tv dp c0 s0 res σ (pc + 2) lv (Lg x :: st)) : GX l cc own nL ret mn xt x0 D b tv dp c0 s0 res σ pc lv st :=
  ⟨k.1, fun p e s m args below meth c hC H locs ls hR hS hv z1 z2 => lv_lload hC.1 hC.2.1 hd (lv_at hv q hq) (k.2 p e s m args below meth c hC H locs ls hR hS hv z1 z2)⟩
theorem gx_aload_n (pc q : Nat) {i : Fin 4} {x : Nat} (hd : decode cc pc = .ok (.aload_n i, 1)) (hq : lv[q]? = some ((i : Nat), .ref x)) (k : GX l cc own nL ret mn xt x0 D b tv dp c0 s0 res σ (pc + 1) lv (.ref x :: st)) : GX l cc own nL ret mn xt x0 D b tv dp c0 s0 res σ pc lv st :=
  ⟨k.1, fun p e s m args below meth c hC H locs ls hR hS hv z1 z2 => lv_aload_n hC.1 hC.2.1 hd rfl (lv_at hv q hq) (k.2 p e s m args below meth c hC H locs ls hR hS hv z1 z2)⟩
theorem gx_aload (pc q : Nat) {i : Nat} {x : Nat} (hd : decode cc pc = .ok (.aload i, 2)) (hq : lv[q]? = some (i, .ref x)) (k : GX l cc own nL ret mn xt x0 D b tv dp c0 s0 res σ (pc + 2) lv (.ref x :: st)) : GX l cc own nL ret mn xt x0 D b tv dp c0 s0 res σ pc lv st :=
  ⟨k.1, fun p e s m args below meth c hC H locs ls hR hS hv z1 z2 => lv_aload hC.1 hC.2.1 hd (lv_at hv q hq) (k.2 p e s m args below meth c hC H locs ls hR hS hv z1 z2)⟩
theorem gx_istore_n (pc : Nat) (lv' : List (Nat × Value)) {i : Fin 4} {x v : Int} (hd : decode cc pc = .ok (.istore_n i, 1)) (hn : (i : Nat) < nL) (hv0 : v = x) (hl : lvs1 lv i (J v) = lv') (k : GX l cc own nL ret mn xt x0 D b tv dp c0 s0 res σ (pc + 1) lv' st) : GX l cc own nL ret mn xt x0 D b tv dp c0 s0 res σ pc lv (J x :: st) := by
  subst hv0
  exact ⟨k.1, fun p e s m args below meth c hC H locs ls hR hS hv z1 z2 => lv_istore_n hC.1 hC.2.1 hd rfl hv hn hl (fun ls' h' => k.2 p e s m args below meth c hC H locs ls' hR hS h' z1 z2)⟩
theorem gx_istore (pc : Nat) (lv' : List (Nat × Value)) {i : Nat} {x v : Int} (hd : decode cc pc = .ok (.istore i, 2)) (hn : i < nL) (hv0 : v = x) (hl : lvs1 lv i (J v) = lv') (k : GX l cc own nL ret mn xt x0 D b tv dp c0 s0 res σ (pc + 2) lv' st) : GX l cc own nL ret mn xt x0 D b tv dp c0 s0 res σ pc lv (J x :: st) := by
  subst hv0
  exact ⟨k.1, fun p e s m args below meth c hC H locs ls hR hS hv z1 z2 => lv_istore hC.1 hC.2.1 hd hv hn hl (fun ls' h' => k.2 p e s m args below meth c hC H locs ls' hR hS h' z1 z2)⟩
theorem gx_lstore_n (pc : Nat) (lv' : List (Nat × Value)) {i : Fin 4} {x v : Int} (hd : decode cc pc = .ok (.lstore_n i, 1)) (hn : (i : Nat) + 1 < nL) (hv0 : v = x) (hl : lvs2 lv i (Lg v) = lv') (k : GX l cc own nL ret mn xt x0 D b tv dp c0 s0 res σ (pc + 1) lv' st) : GX l cc own nL ret mn xt x0 D b tv dp c0 s0 res σ pc lv (Lg x :: st) := by
  subst hv0
  exact ⟨k.1, fun p e s m args below meth c hC H locs ls hR hS hv z1 z2 => lv_lstore_n hC.1 hC.2.1 hd rfl hv hn hl (fun ls' h' => k.2 p e s m args below meth c hC H locs ls' hR hS h' z1 z2)⟩
theorem gx_lstore (pc : Nat) (lv' : List (Nat × Value)) {i : Nat} {x v : Int} (hd : decode cc pc = .ok (.lstore i, 2)) (hn : i + 1 < nL) (hv0 : v = x) (hl : lvs2 lv i (Lg v) = lv') (k : GX l cc own nL ret mn xt x0 D b tv dp c0 s0 res σ (pc + 2) lv' st) : GX l cc own nL ret mn xt x0 D b tv dp c0 s0 res σ pc lv (Lg x :: st) := by
  subst hv0
  exact ⟨k.1, fun p e s m args below meth c hC H locs ls hR hS hv z1 z2 => lv_lstore hC.1 hC.2.1 hd hv hn hl (fun ls' h' => k.2 p e s m args below meth c hC H locs ls' hR hS h' z1 z2)⟩
theorem gx_astore_n (pc : Nat) (lv' : List (Nat × Value)) {i : Fin 4} {x : Nat} (hd : decode cc pc = .ok (.astore_n i, 1)) (hn : (i : Nat) < nL) (hl : lvs1 lv i (.ref x) = lv') (k : GX l cc own nL ret mn xt x0 D b tv dp c0 s0 res σ (pc + 1) lv' st) : GX l cc own nL ret mn xt x0 D b tv dp c0 s0 res σ pc lv (.ref x :: st) :=
  ⟨k.1, fun p e s m args below meth c hC H locs ls hR hS hv z1 z2 => lv_astore_n hC.1 hC.2.1 hd rfl hv hn hl (fun ls' h' => k.2 p e s m args below meth c hC H locs ls' hR hS h' z1 z2)⟩
theorem gx_astore (pc : Nat) (lv' : List (Nat × Value)) {i : Nat} {x : Nat} (hd : decode cc pc = .ok (.astore i, 2)) (hn : i < nL) (hl : lvs1 lv i (.ref x) = lv') (k : GX l cc own nL ret mn xt x0 D b tv dp c0 s0 res σ (pc + 2) lv' st) : GX l cc own nL ret mn xt x0 D b tv dp c0 s0 res σ pc lv (.ref x :: st) :=
  ⟨k.1, fun p e s m args below meth c hC H locs ls hR hS hv z1 z2 => lv_astore hC.1 hC.2.1 hd hv hn hl (fun ls' h' => k.2 p e s m args below meth c hC H locs ls' hR hS h' z1 z2)⟩
theorem gx_iinc (pc q : Nat) (lv' : List (Nat × Value)) {i : Nat} {n x v : Int} (hd : decode cc pc = .ok (.iinc i n, 3)) (hq : lv[q]? = some (i, J x)) (hv' : v = x + n) (hn : i < nL) (hl : lvs1 lv i (J v) = lv') (k : GX l cc own nL ret mn xt x0 D b tv dp c0 s0 res σ (pc + 3) lv' st) : GX l cc own nL ret mn xt x0 D b tv dp c0 s0 res σ pc lv st :=
  ⟨k.1, fun p e s m args below meth c hC H locs ls hR hS hv z1 z2 => lv_iinc hC.1 hC.2.1 hd hv hq (by rw [hv', Int32.ofInt_add]) hn hl (fun ls' h' => k.2 p e s m args below meth c hC H locs ls' hR hS h' z1 z2)⟩
theorem gx_iadd (pc : Nat) {x y : Int} (hd : decode cc pc = .ok (.iadd, 1)) (k : GX l cc own nL ret mn xt x0 D b tv dp c0 s0 res σ (pc + 1) lv (J (x + y) :: st)) : GX l cc own nL ret mn xt x0 D b tv dp c0 s0 res σ pc lv (J y :: J x :: st) :=
  ⟨k.1, fun p e s m args below meth c hC H locs ls hR hS hv z1 z2 => lv_iadd hC.1 hC.2.1 hd (by have := k.2 p e s m args below meth c hC H locs ls hR hS hv z1 z2; rw [J, Int32.ofInt_add] at this; exact this)⟩
theorem gx_isub (pc : Nat) {x y : Int} (hd : decode cc pc = .ok (.isub, 1)) (k : GX l cc own nL ret mn xt x0 D b tv dp c0 s0 res σ (pc + 1) lv (J (x - y) :: st)) : GX l cc own nL ret mn xt x0 D b tv dp c0 s0 res σ pc lv (J y :: J x :: st) :=
  ⟨k.1, fun p e s m args below meth c hC H locs ls hR hS hv z1 z2 => lv_isub hC.1 hC.2.1 hd (by have := k.2 p e s m args below meth c hC H locs ls hR hS hv z1 z2; rw [J, Int32.ofInt_sub] at this; exact this)⟩
theorem gx_imul (pc : Nat) {x y : Int} (hd : decode cc pc = .ok (.imul, 1)) (k : GX l cc own nL ret mn xt x0 D b tv dp c0 s0 res σ (pc + 1) lv (J (x * y) :: st)) : GX l cc own nL ret mn xt x0 D b tv dp c0 s0 res σ pc lv (J y :: J x :: st) :=
  ⟨k.1, fun p e s m args below meth c hC H locs ls hR hS hv z1 z2 => lv_imul hC.1 hC.2.1 hd (by have := k.2 p e s m args below meth c hC H locs ls hR hS hv z1 z2; rw [J, Int32.ofInt_mul] at this; exact this)⟩
theorem gx_ineg (pc : Nat) {x : Int} (hd : decode cc pc = .ok (.ineg, 1)) (k : GX l cc own nL ret mn xt x0 D b tv dp c0 s0 res σ (pc + 1) lv (J (-x) :: st)) : GX l cc own nL ret mn xt x0 D b tv dp c0 s0 res σ pc lv (J x :: st) :=
  ⟨k.1, fun p e s m args below meth c hC H locs ls hR hS hv z1 z2 => lv_ineg hC.1 hC.2.1 hd (by have := k.2 p e s m args below meth c hC H locs ls hR hS hv z1 z2; rw [J, Int32.ofInt_neg] at this; exact this)⟩
theorem gx_iand (pc : Nat) {x y : Int} (hd : decode cc pc = .ok (.iand, 1)) (k : GX l cc own nL ret mn xt x0 D b tv dp c0 s0 res σ (pc + 1) lv (J (iand x y) :: st)) : GX l cc own nL ret mn xt x0 D b tv dp c0 s0 res σ pc lv (J y :: J x :: st) :=
  ⟨k.1, fun p e s m args below meth c hC H locs ls hR hS hv z1 z2 => lv_iand hC.1 hC.2.1 hd (by have := k.2 p e s m args below meth c hC H locs ls hR hS hv z1 z2; rw [J, iand, Int32.ofInt_toInt] at this; exact this)⟩
theorem gx_ior (pc : Nat) {x y : Int} (hd : decode cc pc = .ok (.ior, 1)) (k : GX l cc own nL ret mn xt x0 D b tv dp c0 s0 res σ (pc + 1) lv (J (ior x y) :: st)) : GX l cc own nL ret mn xt x0 D b tv dp c0 s0 res σ pc lv (J y :: J x :: st) :=
  ⟨k.1, fun p e s m args below meth c hC H locs ls hR hS hv z1 z2 => lv_ior hC.1 hC.2.1 hd (by have := k.2 p e s m args below meth c hC H locs ls hR hS hv z1 z2; rw [J, ior, Int32.ofInt_toInt] at this; exact this)⟩
theorem gx_ixor (pc : Nat) {x y : Int} (hd : decode cc pc = .ok (.ixor, 1)) (k : GX l cc own nL ret mn xt x0 D b tv dp c0 s0 res σ (pc + 1) lv (J (ixor x y) :: st)) : GX l cc own nL ret mn xt x0 D b tv dp c0 s0 res σ pc lv (J y :: J x :: st) :=
  ⟨k.1, fun p e s m args below meth c hC H locs ls hR hS hv z1 z2 => lv_ixor hC.1 hC.2.1 hd (by have := k.2 p e s m args below meth c hC H locs ls hR hS hv z1 z2; rw [J, ixor, Int32.ofInt_toInt] at this; exact this)⟩
theorem gx_ishl (pc : Nat) {x y : Int} (hd : decode cc pc = .ok (.ishl, 1)) (k : GX l cc own nL ret mn xt x0 D b tv dp c0 s0 res σ (pc + 1) lv (J (ishl x y) :: st)) : GX l cc own nL ret mn xt x0 D b tv dp c0 s0 res σ pc lv (J y :: J x :: st) :=
  ⟨k.1, fun p e s m args below meth c hC H locs ls hR hS hv z1 z2 => lv_ishl hC.1 hC.2.1 hd (by have := k.2 p e s m args below meth c hC H locs ls hR hS hv z1 z2; rw [J, ishl, Int32.ofInt_toInt] at this; exact this)⟩
theorem gx_ishr (pc : Nat) {x y : Int} (hd : decode cc pc = .ok (.ishr, 1)) (k : GX l cc own nL ret mn xt x0 D b tv dp c0 s0 res σ (pc + 1) lv (J (ishr x y) :: st)) : GX l cc own nL ret mn xt x0 D b tv dp c0 s0 res σ pc lv (J y :: J x :: st) :=
  ⟨k.1, fun p e s m args below meth c hC H locs ls hR hS hv z1 z2 => lv_ishr hC.1 hC.2.1 hd (by have := k.2 p e s m args below meth c hC H locs ls hR hS hv z1 z2; rw [J, ishr, Int32.ofInt_toInt] at this; exact this)⟩
theorem gx_idiv (pc : Nat) {x y : Int} (hd : decode cc pc = .ok (.idiv, 1)) (hy : ¬ i32 y = 0) (k : GX l cc own nL ret mn xt x0 D b tv dp c0 s0 res σ (pc + 1) lv (J (idiv x y) :: st)) : GX l cc own nL ret mn xt x0 D b tv dp c0 s0 res σ pc lv (J y :: J x :: st) :=
  ⟨k.1, fun p e s m args below meth c hC H locs ls hR hS hv z1 z2 => lv_idiv hC.1 hC.2.1 hd (fun h => hy ((eq320 y).mp h)) (by rw [J_idiv]; exact k.2 p e s m args below meth c hC H locs ls hR hS hv z1 z2)⟩
theorem gx_irem (pc : Nat) {x y : Int} (hd : decode cc pc = .ok (.irem, 1)) (hy : ¬ i32 y = 0) (k : GX l cc own nL ret mn xt x0 D b tv dp c0 s0 res σ (pc + 1) lv (J (irem x y) :: st)) : GX l cc own nL ret mn xt x0 D b tv dp c0 s0 res σ pc lv (J y :: J x :: st) :=
  ⟨k.1, fun p e s m args below meth c hC H locs ls hR hS hv z1 z2 => lv_irem hC.1 hC.2.1 hd (fun h => hy ((eq320 y).mp h)) (by rw [J_irem]; exact k.2 p e s m args below meth c hC H locs ls hR hS hv z1 z2)⟩
theorem gx_ladd (pc : Nat) {x y : Int} (hd : decode cc pc = .ok (.ladd, 1)) (k : GX l cc own nL ret mn xt x0 D b tv dp c0 s0 res σ (pc + 1) lv (Lg (x + y) :: st)) : GX l cc own nL ret mn xt x0 D b tv dp c0 s0 res σ pc lv (Lg y :: Lg x :: st) :=
  ⟨k.1, fun p e s m args below meth c hC H locs ls hR hS hv z1 z2 => lv_ladd hC.1 hC.2.1 hd (by have := k.2 p e s m args below meth c hC H locs ls hR hS hv z1 z2; rw [Lg, Int64.ofInt_add] at this; exact this)⟩
theorem gx_lsub (pc : Nat) {x y : Int} (hd : decode cc pc = .ok (.lsub, 1)) (k : GX l cc own nL ret mn xt x0 D b tv dp c0 s0 res σ (pc + 1) lv (Lg (x - y) :: st)) : GX l cc own nL ret mn xt x0 D b tv dp c0 s0 res σ pc lv (Lg y :: Lg x :: st) :=
  ⟨k.1, fun p e s m args below meth c hC H locs ls hR hS hv z1 z2 => lv_lsub hC.1 hC.2.1 hd (by have := k.2 p e s m args below meth c hC H locs ls hR hS hv z1 z2; rw [Lg, Int64.ofInt_sub] at this; exact this)⟩
theorem gx_lmul (pc : Nat) {x y : Int} (hd : decode cc pc = .ok (.lmul, 1)) (k : GX l cc own nL ret mn xt x0 D b tv dp c0 s0 res σ (pc + 1) lv (Lg (x * y) :: st)) : GX l cc own nL ret mn xt x0 D b tv dp c0 s0 res σ pc lv (Lg y :: Lg x :: st) :=
  ⟨k.1, fun p e s m args below meth c hC H locs ls hR hS hv z1 z2 => lv_lmul hC.1 hC.2.1 hd (by have := k.2 p e s m args below meth c hC H locs ls hR hS hv z1 z2; rw [Lg, Int64.ofInt_mul] at this; exact this)⟩
theorem gx_ldiv (pc : Nat) {x y : Int} (hd : decode cc pc = .ok (.ldiv, 1)) (hy : ¬ i64 y = 0) (k : GX l cc own nL ret mn xt x0 D b tv dp c0 s0 res σ (pc + 1) lv (Lg (ldiv x y) :: st)) : GX l cc own nL ret mn xt x0 D b tv dp c0 s0 res σ pc lv (Lg y :: Lg x :: st) :=
  ⟨k.1, fun p e s m args below meth c hC H locs ls hR hS hv z1 z2 => lv_ldiv hC.1 hC.2.1 hd (fun h => hy ((eq64 y 0).mp h)) (by rw [Lg_ldiv]; exact k.2 p e s m args below meth c hC H locs ls hR hS hv z1 z2)⟩
theorem gx_lrem (pc : Nat) {x y : Int} (hd : decode cc pc = .ok (.lrem, 1)) (hy : ¬ i64 y = 0) (k : GX l cc own nL ret mn xt x0 D b tv dp c0 s0 res σ (pc + 1) lv (Lg (lrem x y) :: st)) : GX l cc own nL ret mn xt x0 D b tv dp c0 s0 res σ pc lv (Lg y :: Lg x :: st) :=
  ⟨k.1, fun p e s m args below meth c hC H locs ls hR hS hv z1 z2 => lv_lrem hC.1 hC.2.1 hd (fun h => hy ((eq64 y 0).mp h)) (by rw [Lg_lrem]; exact k.2 p e s m args below meth c hC H locs ls hR hS hv z1 z2)⟩
theorem gx_i2l (pc : Nat) {x : Int} (hd : decode cc pc = .ok (.i2l, 1)) (k : GX l cc own nL ret mn xt x0 D b tv dp c0 s0 res σ (pc + 1) lv (Lg (i32 x) :: st)) : GX l cc own nL ret mn xt x0 D b tv dp c0 s0 res σ pc lv (J x :: st) :=
  ⟨k.1, fun p e s m args below meth c hC H locs ls hR hS hv z1 z2 => lv_i2l hC.1 hC.2.1 hd (by rw [← Int64.toInt_inj, Int32.toInt_toInt64, toInt_ofInt32, toInt_ofInt64, i64_i32]) (k.2 p e s m args below meth c hC H locs ls hR hS hv z1 z2)⟩
theorem gx_l2i (pc : Nat) {x : Int} (hd : decode cc pc = .ok (.l2i, 1)) (k : GX l cc own nL ret mn xt x0 D b tv dp c0 s0 res σ (pc + 1) lv (J x :: st)) : GX l cc own nL ret mn xt x0 D b tv dp c0 s0 res σ pc lv (Lg x :: st) :=
  ⟨k.1, fun p e s m args below meth c hC H locs ls hR hS hv z1 z2 => lv_l2i hC.1 hC.2.1 hd Int64.toInt32_ofInt (k.2 p e s m args below meth c hC H locs ls hR hS hv z1 z2)⟩
theorem gx_i2b (pc : Nat) {x : Int} (hd : decode cc pc = .ok (.i2b, 1)) (k : GX l cc own nL ret mn xt x0 D b tv dp c0 s0 res σ (pc + 1) lv (J (i8 x) :: st)) : GX l cc own nL ret mn xt x0 D b tv dp c0 s0 res σ pc lv (J x :: st) :=
  ⟨k.1, fun p e s m args below meth c hC H locs ls hR hS hv z1 z2 => lv_i2b hC.1 hC.2.1 hd (by
    rw [← Int32.toInt_inj, Int8.toInt_toInt32, Int32.toInt8_ofInt, Int8.toInt_ofInt, toInt_ofInt32]
    have h1 := @Int.le_bmod x 256 (by decide)
    have h2 := @Int.bmod_lt x 256 (by decide)
    exact (i32_id (a := i8 x) (by unfold i8; omega) (by unfold i8; omega)).symm) (k.2 p e s m args below meth c hC H locs ls hR hS hv z1 z2)⟩
theorem gx_dup (pc : Nat) {v : Value} (hd : decode cc pc = .ok (.dup, 1)) (hv1 : v.category = 1) (k : GX l cc own nL ret mn xt x0 D b tv dp c0 s0 res σ (pc + 1) lv (v :: v :: st)) : GX l cc own nL ret mn xt x0 D b tv dp c0 s0 res σ pc lv (v :: st) :=
  ⟨k.1, fun p e s m args below meth c hC H locs ls hR hS hv z1 z2 => lv_dup hC.1 hC.2.1 hd hv1 (k.2 p e s m args below meth c hC H locs ls hR hS hv z1 z2)⟩
theorem gx_pop (pc : Nat) {v : Value} (hd : decode cc pc = .ok (.pop, 1)) (hv1 : v.category = 1) (k : GX l cc own nL ret mn xt x0 D b tv dp c0 s0 res σ (pc + 1) lv st) : GX l cc own nL ret mn xt x0 D b tv dp c0 s0 res σ pc lv (v :: st) :=
  ⟨k.1, fun p e s m args below meth c hC H locs ls hR hS hv z1 z2 => lv_pop hC.1 hC.2.1 hd hv1 (k.2 p e s m args below meth c hC H locs ls hR hS hv z1 z2)⟩
theorem gx_dup2 (pc : Nat) {v w : Value} (hd : decode cc pc = .ok (.dup2, 1)) (hv1 : v.category = 1) (hw1 : w.category = 1) (k : GX l cc own nL ret mn xt x0 D b tv dp c0 s0 res σ (pc + 1) lv (v :: w :: v :: w :: st)) : GX l cc own nL ret mn xt x0 D b tv dp c0 s0 res σ pc lv (v :: w :: st) :=
  ⟨k.1, fun p e s m args below meth c hC H locs ls hR hS hv z1 z2 => lv_dup2_11 hC.1 hC.2.1 hd hv1 hw1 (k.2 p e s m args below meth c hC H locs ls hR hS hv z1 z2)⟩
theorem gx_dup_x1 (pc : Nat) {v w : Value} (hd : decode cc pc = .ok (.dup_x1, 1)) (hv1 : v.category = 1) (hw1 : w.category = 1) (k : GX l cc own nL ret mn xt x0 D b tv dp c0 s0 res σ (pc + 1) lv (v :: w :: v :: st)) : GX l cc own nL ret mn xt x0 D b tv dp c0 s0 res σ pc lv (v :: w :: st) :=
  ⟨k.1, fun p e s m args below meth c hC H locs ls hR hS hv z1 z2 => lv_dup_x1 hC.1 hC.2.1 hd hv1 hw1 (k.2 p e s m args below meth c hC H locs ls hR hS hv z1 z2)⟩
theorem gx_goto (pc tgt : Nat) {off : Int} (hd : decode cc pc = .ok (.goto off, 3)) (ht : (pc : Int) + off = (tgt : Int)) (k : GX l cc own nL ret mn xt x0 D b tv dp c0 s0 res σ tgt lv st) : GX l cc own nL ret mn xt x0 D b tv dp c0 s0 res σ pc lv st :=
  ⟨k.1, fun p e s m args below meth c hC H locs ls hR hS hv z1 z2 => lv_goto hC.1 hC.2.1 hd ht (k.2 p e s m args below meth c hC H locs ls hR hS hv z1 z2)⟩
theorem gx_if_eq (pc tgt : Nat) {x off : Int} (hd : decode cc pc = .ok (.ifCond .eq off, 3)) (ht : (pc : Int) + off = (tgt : Int)) (kt : i32 x = 0 → GX l cc own nL ret mn xt x0 D b tv dp c0 s0 res σ tgt lv st) (kf : ¬ i32 x = 0 → GX l cc own nL ret mn xt x0 D b tv dp c0 s0 res σ (pc + 3) lv st) : GX l cc own nL ret mn xt x0 D b tv dp c0 s0 res σ pc lv (J x :: st) :=
  ⟨by by_cases q9 : i32 x = 0 <;> first | exact (kt q9).1 | exact (kf q9).1, fun p e s m args below meth c hC H locs ls hR hS hv z1 z2 => lv_if_eq hC.1 hC.2.1 hd ht (fun h => (kt ((eq320 x).mp h)).2 p e s m args below meth c hC H locs ls hR hS hv z1 z2) (fun h => (kf (fun q => h ((eq320 x).mpr q))).2 p e s m args below meth c hC H locs ls hR hS hv z1 z2)⟩
theorem gx_icmp_eq (pc tgt : Nat) {x y off : Int} (hd : decode cc pc = .ok (.if_icmp .eq off, 3)) (ht : (pc : Int) + off = (tgt : Int)) (kt : i32 x = i32 y → GX l cc own nL ret mn xt x0 D b tv dp c0 s0 res σ tgt lv st) (kf : ¬ i32 x = i32 y → GX l cc own nL ret mn xt x0 D b tv dp c0 s0 res σ (pc + 3) lv st) : GX l cc own nL ret mn xt x0 D b tv dp c0 s0 res σ pc lv (J y :: J x :: st) :=
  ⟨by by_cases q9 : i32 x = i32 y <;> first | exact (kt q9).1 | exact (kf q9).1, fun p e s m args below meth c hC H locs ls hR hS hv z1 z2 => lv_icmp_eq hC.1 hC.2.1 hd ht (fun h => (kt ((eq32 x y).mp h)).2 p e s m args below meth c hC H locs ls hR hS hv z1 z2) (fun h => (kf (fun q => h ((eq32 x y).mpr q))).2 p e s m args below meth c hC H locs ls hR hS hv z1 z2)⟩
theorem gx_if_ne (pc tgt : Nat) {x off : Int} (hd : decode cc pc = .ok (.ifCond .ne off, 3)) (ht : (pc : Int) + off = (tgt : Int)) (kt : ¬ i32 x = 0 → GX l cc own nL ret mn xt x0 D b tv dp c0 s0 res σ tgt lv st) (kf : i32 x = 0 → GX l cc own nL ret mn xt x0 D b tv dp c0 s0 res σ (pc + 3) lv st) : GX l cc own nL ret mn xt x0 D b tv dp c0 s0 res σ pc lv (J x :: st) :=
  ⟨by by_cases q9 : i32 x = 0 <;> first | exact (kt q9).1 | exact (kf q9).1, fun p e s m args below meth c hC H locs ls hR hS hv z1 z2 => lv_if_ne hC.1 hC.2.1 hd ht (fun h => (kt (fun q => h ((eq320 x).mpr q))).2 p e s m args below meth c hC H locs ls hR hS hv z1 z2) (fun h => (kf ((eq320 x).mp h)).2 p e s m args below meth c hC H locs ls hR hS hv z1 z2)⟩
theorem gx_icmp_ne (pc tgt : Nat) {x y off : Int} (hd : decode cc pc = .ok (.if_icmp .ne off, 3)) (ht : (pc : Int) + off = (tgt : Int)) (kt : ¬ i32 x = i32 y → GX l cc own nL ret mn xt x0 D b tv dp c0 s0 res σ tgt lv st) (kf : i32 x = i32 y → GX l cc own nL ret mn xt x0 D b tv dp c0 s0 res σ (pc + 3) lv st) : GX l cc own nL ret mn xt x0 D b tv dp c0 s0 res σ pc lv (J y :: J x :: st) :=
  ⟨by by_cases q9 : i32 x = i32 y <;> first | exact (kt q9).1 | exact (kf q9).1, fun p e s m args below meth c hC H locs ls hR hS hv z1 z2 => lv_icmp_ne hC.1 hC.2.1 hd ht (fun h => (kt (fun q => h ((eq32 x y).mpr q))).2 p e s m args below meth c hC H locs ls hR hS hv z1 z2) (fun h => (kf ((eq32 x y).mp h)).2 p e s m args below meth c hC H locs ls hR hS hv z1 z2)⟩
theorem gx_if_lt (pc tgt : Nat) {x off : Int} (hd : decode cc pc = .ok (.ifCond .lt off, 3)) (ht : (pc : Int) + off = (tgt : Int)) (kt : i32 x < 0 → GX l cc own nL ret mn xt x0 D b tv dp c0 s0 res σ tgt lv st) (kf : ¬ i32 x < 0 → GX l cc own nL ret mn xt x0 D b tv dp c0 s0 res σ (pc + 3) lv st) : GX l cc own nL ret mn xt x0 D b tv dp c0 s0 res σ pc lv (J x :: st) :=
  ⟨by by_cases q9 : i32 x < 0 <;> first | exact (kt q9).1 | exact (kf q9).1, fun p e s m args below meth c hC H locs ls hR hS hv z1 z2 => lv_if_lt hC.1 hC.2.1 hd ht (fun h => (kt ((lt320 x).mp h)).2 p e s m args below meth c hC H locs ls hR hS hv z1 z2) (fun h => (kf (fun q => h ((lt320 x).mpr q))).2 p e s m args below meth c hC H locs ls hR hS hv z1 z2)⟩
theorem gx_icmp_lt (pc tgt : Nat) {x y off : Int} (hd : decode cc pc = .ok (.if_icmp .lt off, 3)) (ht : (pc : Int) + off = (tgt : Int)) (kt : i32 x < i32 y → GX l cc own nL ret mn xt x0 D b tv dp c0 s0 res σ tgt lv st) (kf : ¬ i32 x < i32 y → GX l cc own nL ret mn xt x0 D b tv dp c0 s0 res σ (pc + 3) lv st) : GX l cc own nL ret mn xt x0 D b tv dp c0 s0 res σ pc lv (J y :: J x :: st) :=
  ⟨by by_cases q9 : i32 x < i32 y <;> first | exact (kt q9).1 | exact (kf q9).1, fun p e s m args below meth c hC H locs ls hR hS hv z1 z2 => lv_icmp_lt hC.1 hC.2.1 hd ht (fun h => (kt ((lt32 x y).mp h)).2 p e s m args below meth c hC H locs ls hR hS hv z1 z2) (fun h => (kf (fun q => h ((lt32 x y).mpr q))).2 p e s m args below meth c hC H locs ls hR hS hv z1 z2)⟩
theorem gx_if_ge (pc tgt : Nat) {x off : Int} (hd : decode cc pc = .ok (.ifCond .ge off, 3)) (ht : (pc : Int) + off = (tgt : Int)) (kt : 0 ≤ i32 x → GX l cc own nL ret mn xt x0 D b tv dp c0 s0 res σ tgt lv st) (kf : ¬ 0 ≤ i32 x → GX l cc own nL ret mn xt x0 D b tv dp c0 s0 res σ (pc + 3) lv st) : GX l cc own nL ret mn xt x0 D b tv dp c0 s0 res σ pc lv (J x :: st) :=
  ⟨by by_cases q9 : 0 ≤ i32 x <;> first | exact (kt q9).1 | exact (kf q9).1, fun p e s m args below meth c hC H locs ls hR hS hv z1 z2 => lv_if_ge hC.1 hC.2.1 hd ht (fun h => (kt ((ge320 x).mp h)).2 p e s m args below meth c hC H locs ls hR hS hv z1 z2) (fun h => (kf (fun q => h ((ge320 x).mpr q))).2 p e s m args below meth c hC H locs ls hR hS hv z1 z2)⟩
theorem gx_icmp_ge (pc tgt : Nat) {x y off : Int} (hd : decode cc pc = .ok (.if_icmp .ge off, 3)) (ht : (pc : Int) + off = (tgt : Int)) (kt : i32 y ≤ i32 x → GX l cc own nL ret mn xt x0 D b tv dp c0 s0 res σ tgt lv st) (kf : ¬ i32 y ≤ i32 x → GX l cc own nL ret mn xt x0 D b tv dp c0 s0 res σ (pc + 3) lv st) : GX l cc own nL ret mn xt x0 D b tv dp c0 s0 res σ pc lv (J y :: J x :: st) :=
  ⟨by by_cases q9 : i32 y ≤ i32 x <;> first | exact (kt q9).1 | exact (kf q9).1, fun p e s m args below meth c hC H locs ls hR hS hv z1 z2 => lv_icmp_ge hC.1 hC.2.1 hd ht (fun h => (kt ((le32 y x).mp h)).2 p e s m args below meth c hC H locs ls hR hS hv z1 z2) (fun h => (kf (fun q => h ((le32 y x).mpr q))).2 p e s m args below meth c hC H locs ls hR hS hv z1 z2)⟩
theorem gx_if_gt (pc tgt : Nat) {x off : Int} (hd : decode cc pc = .ok (.ifCond .gt off, 3)) (ht : (pc : Int) + off = (tgt : Int)) (kt : 0 < i32 x → GX l cc own nL ret mn xt x0 D b tv dp c0 s0 res σ tgt lv st) (kf : ¬ 0 < i32 x → GX l cc own nL ret mn xt x0 D b tv dp c0 s0 res σ (pc + 3) lv st) : GX l cc own nL ret mn xt x0 D b tv dp c0 s0 res σ pc lv (J x :: st) :=
  ⟨by by_cases q9 : 0 < i32 x <;> first | exact (kt q9).1 | exact (kf q9).1, fun p e s m args below meth c hC H locs ls hR hS hv z1 z2 => lv_if_gt hC.1 hC.2.1 hd ht (fun h => (kt ((gt320 x).mp h)).2 p e s m args below meth c hC H locs ls hR hS hv z1 z2) (fun h => (kf (fun q => h ((gt320 x).mpr q))).2 p e s m args below meth c hC H locs ls hR hS hv z1 z2)⟩
theorem gx_icmp_gt (pc tgt : Nat) {x y off : Int} (hd : decode cc pc = .ok (.if_icmp .gt off, 3)) (ht : (pc : Int) + off = (tgt : Int)) (kt : i32 y < i32 x → GX l cc own nL ret mn xt x0 D b tv dp c0 s0 res σ tgt lv st) (kf : ¬ i32 y < i32 x → GX l cc own nL ret mn xt x0 D b tv dp c0 s0 res σ (pc + 3) lv st) : GX l cc own nL ret mn xt x0 D b tv dp c0 s0 res σ pc lv (J y :: J x :: st) :=
  ⟨by by_cases q9 : i32 y < i32 x <;> first | exact (kt q9).1 | exact (kf q9).1, fun p e s m args below meth c hC H locs ls hR hS hv z1 z2 => lv_icmp_gt hC.1 hC.2.1 hd ht (fun h => (kt ((lt32 y x).mp h)).2 p e s m args below meth c hC H locs ls hR hS hv z1 z2) (fun h => (kf (fun q => h ((lt32 y x).mpr q))).2 p e s m args below meth c hC H locs ls hR hS hv z1 z2)⟩
theorem gx_if_le (pc tgt : Nat) {x off : Int} (hd : decode cc pc = .ok (.ifCond .le off, 3)) (ht : (pc : Int) + off = (tgt : Int)) (kt : i32 x ≤ 0 → GX l cc own nL ret mn xt x0 D b tv dp c0 s0 res σ tgt lv st) (kf : ¬ i32 x ≤ 0 → GX l cc own nL ret mn xt x0 D b tv dp c0 s0 res σ (pc + 3) lv st) : GX l cc own nL ret mn xt x0 D b tv dp c0 s0 res σ pc lv (J x :: st) :=
  ⟨by by_cases q9 : i32 x ≤ 0 <;> first | exact (kt q9).1 | exact (kf q9).1, fun p e s m args below meth c hC H locs ls hR hS hv z1 z2 => lv_if_le hC.1 hC.2.1 hd ht (fun h => (kt ((le320 x).mp h)).2 p e s m args below meth c hC H locs ls hR hS hv z1 z2) (fun h => (kf (fun q => h ((le320 x).mpr q))).2 p e s m args below meth c hC H locs ls hR hS hv z1 z2)⟩
theorem gx_icmp_le (pc tgt : Nat) {x y off : Int} (hd : decode cc pc = .ok (.if_icmp .le off, 3)) (ht : (pc : Int) + off = (tgt : Int)) (kt : i32 x ≤ i32 y → GX l cc own nL ret mn xt x0 D b tv dp c0 s0 res σ tgt lv st) (kf : ¬ i32 x ≤ i32 y → GX l cc own nL ret mn xt x0 D b tv dp c0 s0 res σ (pc + 3) lv st) : GX l cc own nL ret mn xt x0 D b tv dp c0 s0 res σ pc lv (J y :: J x :: st) :=
  ⟨by by_cases q9 : i32 x ≤ i32 y <;> first | exact (kt q9).1 | exact (kf q9).1, fun p e s m args below meth c hC H locs ls hR hS hv z1 z2 => lv_icmp_le hC.1 hC.2.1 hd ht (fun h => (kt ((le32 x y).mp h)).2 p e s m args below meth c hC H locs ls hR hS hv z1 z2) (fun h => (kf (fun q => h ((le32 x y).mpr q))).2 p e s m args below meth c hC H locs ls hR hS hv z1 z2)⟩
theorem gx_lcmp_eq (pc tgt : Nat) {x y off : Int} (hd : decode cc pc = .ok (.lcmp, 1)) (hd2 : decode cc (pc + 1) = .ok (.ifCond .eq off, 3)) (ht : ((pc + 1 : Nat) : Int) + off = (tgt : Int)) (kt : i64 x = i64 y → GX l cc own nL ret mn xt x0 D b tv dp c0 s0 res σ tgt lv st) (kf : ¬ i64 x = i64 y → GX l cc own nL ret mn xt x0 D b tv dp c0 s0 res σ (pc + 4) lv st) : GX l cc own nL ret mn xt x0 D b tv dp c0 s0 res σ pc lv (Lg y :: Lg x :: st) :=
  ⟨by by_cases q9 : i64 x = i64 y <;> first | exact (kt q9).1 | exact (kf q9).1, fun p e s m args below meth c hC H locs ls hR hS hv z1 z2 => W.lcmp hC.1 hC.2.1 hd (lv_if_eq hC.1 hC.2.1 hd2 ht (fun h => (kt ((eq64 x y).mp ((lg_cmp_eq _ _).mp h))).2 p e s m args below meth c hC H locs ls hR hS hv z1 z2) (fun h => (kf (fun q => h ((lg_cmp_eq _ _).mpr ((eq64 x y).mpr q)))).2 p e s m args below meth c hC H locs ls hR hS hv z1 z2))⟩
theorem gx_lcmp_ne (pc tgt : Nat) {x y off : Int} (hd : decode cc pc = .ok (.lcmp, 1)) (hd2 : decode cc (pc + 1) = .ok (.ifCond .ne off, 3)) (ht : ((pc + 1 : Nat) : Int) + off = (tgt : Int)) (kt : ¬ i64 x = i64 y → GX l cc own nL ret mn xt x0 D b tv dp c0 s0 res σ tgt lv st) (kf : i64 x = i64 y → GX l cc own nL ret mn xt x0 D b tv dp c0 s0 res σ (pc + 4) lv st) : GX l cc own nL ret mn xt x0 D b tv dp c0 s0 res σ pc lv (Lg y :: Lg x :: st) :=
  ⟨by by_cases q9 : i64 x = i64 y <;> first | exact (kt q9).1 | exact (kf q9).1, fun p e s m args below meth c hC H locs ls hR hS hv z1 z2 => W.lcmp hC.1 hC.2.1 hd (lv_if_ne hC.1 hC.2.1 hd2 ht (fun h => (kt (fun q => h ((lg_cmp_eq _ _).mpr ((eq64 x y).mpr q)))).2 p e s m args below meth c hC H locs ls hR hS hv z1 z2) (fun h => (kf ((eq64 x y).mp ((lg_cmp_eq _ _).mp h))).2 p e s m args below meth c hC H locs ls hR hS hv z1 z2))⟩
theorem gx_lcmp_lt (pc tgt : Nat) {x y off : Int} (hd : decode cc pc = .ok (.lcmp, 1)) (hd2 : decode cc (pc + 1) = .ok (.ifCond .lt off, 3)) (ht : ((pc + 1 : Nat) : Int) + off = (tgt : Int)) (kt : i64 x < i64 y → GX l cc own nL ret mn xt x0 D b tv dp c0 s0 res σ tgt lv st) (kf : ¬ i64 x < i64 y → GX l cc own nL ret mn xt x0 D b tv dp c0 s0 res σ (pc + 4) lv st) : GX l cc own nL ret mn xt x0 D b tv dp c0 s0 res σ pc lv (Lg y :: Lg x :: st) :=
  ⟨by by_cases q9 : i64 x < i64 y <;> first | exact (kt q9).1 | exact (kf q9).1, fun p e s m args below meth c hC H locs ls hR hS hv z1 z2 => W.lcmp hC.1 hC.2.1 hd (lv_if_lt hC.1 hC.2.1 hd2 ht (fun h => (kt ((lt64 x y).mp ((lg_cmp_lt _ _).mp h))).2 p e s m args below meth c hC H locs ls hR hS hv z1 z2) (fun h => (kf (fun q => h ((lg_cmp_lt _ _).mpr ((lt64 x y).mpr q)))).2 p e s m args below meth c hC H locs ls hR hS hv z1 z2))⟩
theorem gx_lcmp_ge (pc tgt : Nat) {x y off : Int} (hd : decode cc pc = .ok (.lcmp, 1)) (hd2 : decode cc (pc + 1) = .ok (.ifCond .ge off, 3)) (ht : ((pc + 1 : Nat) : Int) + off = (tgt : Int)) (kt : i64 y ≤ i64 x → GX l cc own nL ret mn xt x0 D b tv dp c0 s0 res σ tgt lv st) (kf : ¬ i64 y ≤ i64 x → GX l cc own nL ret mn xt x0 D b tv dp c0 s0 res σ (pc + 4) lv st) : GX l cc own nL ret mn xt x0 D b tv dp c0 s0 res σ pc lv (Lg y :: Lg x :: st) :=
  ⟨by by_cases q9 : i64 y ≤ i64 x <;> first | exact (kt q9).1 | exact (kf q9).1, fun p e s m args below meth c hC H locs ls hR hS hv z1 z2 => W.lcmp hC.1 hC.2.1 hd (lv_if_ge hC.1 hC.2.1 hd2 ht (fun h => (kt ((le64 y x).mp ((lg_cmp_ge _ _).mp h))).2 p e s m args below meth c hC H locs ls hR hS hv z1 z2) (fun h => (kf (fun q => h ((lg_cmp_ge _ _).mpr ((le64 y x).mpr q)))).2 p e s m args below meth c hC H locs ls hR hS hv z1 z2))⟩
theorem gx_lcmp_gt (pc tgt : Nat) {x y off : Int} (hd : decode cc pc = .ok (.lcmp, 1)) (hd2 : decode cc (pc + 1) = .ok (.ifCond .gt off, 3)) (ht : ((pc + 1 : Nat) : Int) + off = (tgt : Int)) (kt : i64 y < i64 x → GX l cc own nL ret mn xt x0 D b tv dp c0 s0 res σ tgt lv st) (kf : ¬ i64 y < i64 x → GX l cc own nL ret mn xt x0 D b tv dp c0 s0 res σ (pc + 4) lv st) : GX l cc own nL ret mn xt x0 D b tv dp c0 s0 res σ pc lv (Lg y :: Lg x :: st) :=
  ⟨by by_cases q9 : i64 y < i64 x <;> first | exact (kt q9).1 | exact (kf q9).1, fun p e s m args below meth c hC H locs ls hR hS hv z1 z2 => W.lcmp hC.1 hC.2.1 hd (lv_if_gt hC.1 hC.2.1 hd2 ht (fun h => (kt ((lt64 y x).mp ((lg_cmp_gt _ _).mp h))).2 p e s m args below meth c hC H locs ls hR hS hv z1 z2) (fun h => (kf (fun q => h ((lg_cmp_gt _ _).mpr ((lt64 y x).mpr q)))).2 p e s m args below meth c hC H locs ls hR hS hv z1 z2))⟩
theorem gx_lcmp_le (pc tgt : Nat) {x y off : Int} (hd : decode cc pc = .ok (.lcmp, 1)) (hd2 : decode cc (pc + 1) = .ok (.ifCond .le off, 3)) (ht : ((pc + 1 : Nat) : Int) + off = (tgt : Int)) (kt : i64 x ≤ i64 y → GX l cc own nL ret mn xt x0 D b tv dp c0 s0 res σ tgt lv st) (kf : ¬ i64 x ≤ i64 y → GX l cc own nL ret mn xt x0 D b tv dp c0 s0 res σ (pc + 4) lv st) : GX l cc own nL ret mn xt x0 D b tv dp c0 s0 res σ pc lv (Lg y :: Lg x :: st) :=
  ⟨by by_cases q9 : i64 x ≤ i64 y <;> first | exact (kt q9).1 | exact (kf q9).1, fun p e s m args below meth c hC H locs ls hR hS hv z1 z2 => W.lcmp hC.1 hC.2.1 hd (lv_if_le hC.1 hC.2.1 hd2 ht (fun h => (kt ((le64 x y).mp ((lg_cmp_le _ _).mp h))).2 p e s m args below meth c hC H locs ls hR hS hv z1 z2) (fun h => (kf (fun q => h ((lg_cmp_le _ _).mpr ((le64 x y).mpr q)))).2 p e s m args below meth c hC H locs ls hR hS hv z1 z2))⟩
/-! ends -/
theorem gx_end {H : Heap} {locs : List Loc} {ls : Array Slot} {g : JFrame} {pc : Nat} (k : leX σ res.2.2) (z1 : c0 ≤ nC σ) (z2 : s0 ≤ nS σ)
    (w : W p l e (rmx dp (nC res.2.2 - c0) (nS res.2.2 - s0)) s m args below meth c H locs (nC res.2.2 - c0) (nS res.2.2 - s0) (MQ below (xPost b x0 D tv res) args s (nC res.2.2 - c0) (nS res.2.2 - s0) (XA x0)) g) :
    W p l e (rmx dp (nC res.2.2 - c0) (nS res.2.2 - s0)) s m args below meth c H locs (nC σ - c0) (nS σ - s0) (vq_MQ below (xPost b x0 D tv res) (xExc b x0 D res) args s (nC res.2.2 - c0) (nS res.2.2 - s0) (XA x0)) g :=
  W.widen (Nat.sub_le_sub_right k.1 _) (Nat.sub_le_sub_right k.2 _) (vq_ret w)
theorem leX_rf (τ : XS) : leX τ τ := ⟨Nat.le_refl _, Nat.le_refl _⟩
theorem gx_iret (pc : Nat) {x : Int} (hd : decode cc pc = .ok (.ireturn, 1)) (h : some ((0, x, σ) : RX) = some res) : GX l cc own nL (some .int) mn xt x0 D b 1 dp c0 s0 res σ pc lv [J x] := by
  cases h
  exact ⟨leX_rf _, fun p e s m args below meth c hC H locs ls hR hS hv z1 z2 => gx_end (pc := pc) (ls := ls) (leX_rf _) z1 z2 (W.iret hC.1 hC.2.1 hC.2.2.1 (fun t ht hW => ⟨rfl, rfl, by rw [ht]; exact hR, XK_warm hW (hS.F ht) hC.2.2.2.2.2.2.2.1, hS.F ht⟩) hS.2.2 hd hC.2.2.2.2.2.2.1)⟩
theorem gx_zret (pc : Nat) {x : Int} (hd : decode cc pc = .ok (.ireturn, 1)) (hb : bz x) (h : some ((0, x, σ) : RX) = some res) : GX l cc own nL (some .boolean) mn xt x0 D b 1 dp c0 s0 res σ pc lv [J x] := by
  cases h
  exact ⟨leX_rf _, fun p e s m args below meth c hC H locs ls hR hS hv z1 z2 => gx_end (pc := pc) (ls := ls) (leX_rf _) z1 z2 (W.zret hC.1 hC.2.1 hC.2.2.1 (bz_narrow hb) (fun t ht hW => ⟨rfl, rfl, by rw [ht]; exact hR, XK_warm hW (hS.F ht) hC.2.2.2.2.2.2.2.1, hS.F ht⟩) hS.2.2 hd hC.2.2.2.2.2.2.1)⟩
theorem gx_lret (pc : Nat) {x : Int} (hd : decode cc pc = .ok (.lreturn, 1)) (h : some ((0, x, σ) : RX) = some res) : GX l cc own nL (some .long) mn xt x0 D b 2 dp c0 s0 res σ pc lv [Lg x] := by
  cases h
  exact ⟨leX_rf _, fun p e s m args below meth c hC H locs ls hR hS hv z1 z2 => gx_end (pc := pc) (ls := ls) (leX_rf _) z1 z2 (W.lret hC.1 hC.2.1 hC.2.2.1 (fun t ht hW => ⟨rfl, rfl, by rw [ht]; exact hR, XK_warm hW (hS.F ht) hC.2.2.2.2.2.2.2.1, hS.F ht⟩) hS.2.2 hd hC.2.2.2.2.2.2.1)⟩
theorem gx_vret (pc : Nat) (hd : decode cc pc = .ok (.return_, 1)) (h : some ((0, 0, σ) : RX) = some res) : GX l cc own nL none mn xt x0 D b 0 dp c0 s0 res σ pc lv [] := by
  cases h
  exact ⟨leX_rf _, fun p e s m args below meth c hC H locs ls hR hS hv z1 z2 => gx_end (pc := pc) (ls := ls) (leX_rf _) z1 z2 (W.vret hC.1 hC.2.1 hC.2.2.1 (fun t ht hW => ⟨rfl, rfl, by rw [ht]; exact hR, XK_warm hW (hS.F ht) hC.2.2.2.2.2.2.2.1, hS.F ht⟩) hS.2.2 hd hC.2.2.2.2.2.2.1)⟩
theorem gx_aret (pc : Nat) {rt : FieldType} (hrt : (∃ n, rt = .object n) ∨ ∃ t, rt = .array t) {x : Int} (hd : decode cc pc = .ok (.areturn, 1)) (h : some ((0, x, σ) : RX) = some res) : GX l cc own nL (some rt) mn xt x0 D b 3 dp c0 s0 res σ pc lv [.ref (ad x0 x)] := by
  cases h
  exact ⟨leX_rf _, fun p e s m args below meth c hC H locs ls hR hS hv z1 z2 => gx_end (pc := pc) (ls := ls) (leX_rf _) z1 z2 (W.aret hC.1 hC.2.1 hC.2.2.1 hrt (Or.inr ⟨_, rfl⟩) (fun t ht hW => ⟨rfl, rfl, by rw [ht]; exact hR, XK_warm hW (hS.F ht) hC.2.2.2.2.2.2.2.1, hS.F ht⟩) hS.2.2 hd hC.2.2.2.2.2.2.1)⟩
theorem gx_tableOut (pc tgt : Nat) {dflt lo hi : Int} {offs : Array Int} {len : Nat} {x : Int} (hd : decode cc pc = .ok (.tableswitch dflt lo hi offs, len)) (h : i32 x < lo ∨ hi < i32 x) (ht : (pc : Int) + dflt = (tgt : Int)) (k : GX l cc own nL ret mn xt x0 D b tv dp c0 s0 res σ tgt lv st) : GX l cc own nL ret mn xt x0 D b tv dp c0 s0 res σ pc lv (J x :: st) :=
  ⟨k.1, fun p e s m args below meth c hC H locs ls hR hS hv z1 z2 => lv_tableOut hC.1 hC.2.1 hd (by rw [toInt_ofInt32]; exact h) ht (k.2 p e s m args below meth c hC H locs ls hR hS hv z1 z2)⟩
theorem gx_tableIn (pc tgt : Nat) (v : Int) {dflt lo hi off : Int} {offs : Array Int} {len : Nat} {x : Int} (hd : decode cc pc = .ok (.tableswitch dflt lo hi offs, len)) (h : i32 x = v) (h1 : lo ≤ v) (h2 : v ≤ hi) (ho : offs[(v - lo).toNat]? = some off) (ht : (pc : Int) + off = (tgt : Int)) (k : GX l cc own nL ret mn xt x0 D b tv dp c0 s0 res σ tgt lv st) : GX l cc own nL ret mn xt x0 D b tv dp c0 s0 res σ pc lv (J x :: st) :=
  ⟨k.1, fun p e s m args below meth c hC H locs ls hR hS hv z1 z2 => lv_tableIn hC.1 hC.2.1 hd (by rw [toInt_ofInt32, h]; omega) (by rw [toInt_ofInt32, h]; omega) (by rw [toInt_ofInt32, h]; exact ho) ht (k.2 p e s m args below meth c hC H locs ls hR hS hv z1 z2)⟩
theorem gx_lookup (pc tgt : Nat) {dflt off : Int} {ps : Array (Int × Int)} {len : Nat} {x : Int} (hd : decode cc pc = .ok (.lookupswitch dflt ps, len)) (hp : (ps.toList.zip (ps.toList.drop 1)).all (fun (a, next) => a.1 < next.1) = true) (ho : Op.lookupswitch.offset ps.toList dflt (i32 x) = off) (ht : (pc : Int) + off = (tgt : Int)) (k : GX l cc own nL ret mn xt x0 D b tv dp c0 s0 res σ tgt lv st) : GX l cc own nL ret mn xt x0 D b tv dp c0 s0 res σ pc lv (J x :: st) :=
  ⟨k.1, fun p e s m args below meth c hC H locs ls hR hS hv z1 z2 => lv_lookup hC.1 hC.2.1 hd hp (by rw [toInt_ofInt32]; exact ho) ht (k.2 p e s m args below meth c hC H locs ls hR hS hv z1 z2)⟩
/-! cells -/
theorem XRp.at {H : Heap} (hR : XRp b x0 D σ H) {ce : Int} {t : Nat} (ht : tg b σ ce = t) (h0 : 0 < t) : ce < σ (-1) 0 ∧ ce ≠ -1 ∧ COK b x0 D t (ln b σ ce) ce (σ ce) H := by
  have := hR.2.2.2.2.2 ce (by omega)
  rw [ht] at this
  exact this
theorem XRp.obj {H : Heap} (hR : XRp b x0 D σ H) {ce : Int} {t : Nat} {q : vw_C} (ht : tg b σ ce = t) (h1 : 0 < t ∧ t < 100) (hq : xcl[t - 1]? = some q) : t_OB (ad x0 ce) (D.1 (t - 1)) q.2.2 (D.2.1 (t - 1)) H (fun k => fvl b x0 t k ce (σ ce)) := by
  obtain ⟨-, -, h⟩ := hR.at ht h1.1
  unfold COK at h
  rw [if_pos h1.2] at h
  obtain ⟨q', hq', h⟩ := h
  cases hq.symm.trans hq'
  exact h
theorem XRp.arr {H : Heap} (hR : XRp b x0 D σ H) {ce : Int} {t : Nat} (ht : tg b σ ce = t) (h1 : 100 ≤ t) : 0 ≤ ln b σ ce ∧ H[ad x0 ce]? = some (arrV (D.2.2.1 t) (ln b σ ce).toNat (fun j => evl b x0 t ce j (σ ce j))) := by
  obtain ⟨-, -, h⟩ := hR.at ht (by omega)
  unfold COK at h
  rw [if_neg (by omega)] at h
  exact h
/-- the words of a class: its number, its table, its fields' words -/
def ClsW (t : Nat) (q : vw_C) : Prop := 0 < t ∧ t < 100 ∧ xcl[t - 1]? = some q ∧ (∀ w ∈ u_ws q.1 q.2.1 q.2.2, w ∈ lw_all) ∧ (∀ a, a < q.2.2 → ∀ b, b < q.2.2 → a ≠ b → (q.2.1 a).2.1 ≠ (q.2.1 b).2.1) ∧ ∃ ty : Nat → FieldType, ∀ k, k < q.2.2 → parseFieldDescriptor (q.2.1 k).2.2.1 = some (ty k)
theorem gx_get (pc : Nat) {t k idx : Nat} {ce : Int} {ref : String} {q : vw_C} {v : Value} (hq : ClsW t q) (hk : k < q.2.2) (ht : tg b σ ce = t) (hl : Cond.fieldLink own idx ref (q.2.1 k).2.1 (q.2.1 k).2.2.1 ∈ lw_all) (hsame : ∀ (s : State) (args : Array Value), (∀ w ∈ lw_all, w.before args s = true) → ∀ x, s.fieldFound? (q.2.1 k).1 (q.2.1 k).2.1 (q.2.1 k).2.2.1 = some x → s.fieldFound? ref (q.2.1 k).2.1 (q.2.1 k).2.2.1 = some x) (hv : fvl b x0 t k ce (σ ce) = v) (hd : decode cc pc = .ok (.getfield idx, 3))
    (kk : GX l cc own nL ret mn xt x0 D b tv dp c0 s0 res σ (pc + 3) lv (v :: st)) : GX l cc own nL ret mn xt x0 D b tv dp c0 s0 res σ pc lv (.ref (ad x0 ce) :: st) := by
  refine ⟨kk.1, fun p e s m args below meth c hC H locs ls hR hS hl' z1 z2 => ?_⟩
  obtain ⟨h1, h2, h3, hin, -, -⟩ := hq
  obtain ⟨cell, q1, q2, q3, q4⟩ := hR.obj ht ⟨h1, h2⟩ h3
  have hCC := hC
  obtain ⟨hx, hb, -, hml, hown, hts, -, hKs, hmnm, -⟩ := hC
  obtain ⟨hSl, hfc, kC, hkC, hkind⟩ := hKs.1 _ _ h3
  obtain ⟨cf, kf, fi, f, hi, hsl⟩ := hSl k hk
  refine W.getf hx hb hown (hts _ hl) (hsame s args hts _ hi) (u_facts hfc hkC (u_lays hts hin hk) hi).1 q1 (by rw [q3]; exact fun h => by cases h) (v := v) ?_ rfl rfl hd (kk.2 p e s m args below meth c hCC H locs ls hR hS hl' z1 z2)
  rw [hsl, q4 k hk]; exact congrArg some hv
theorem gx_getN (pc : Nat) {t k idx : Nat} {ce : Int} {ref host : String} {q : vw_C} {v : Value} (hq : ClsW t q) (hk : k < q.2.2) (ht : tg b σ ce = t) (hl : Cond.fieldLinkNest own idx ref (q.2.1 k).2.1 (q.2.1 k).2.2.1 host ∈ lw_tbl) (hsame : ∀ (s : State) (args : Array Value), (∀ w ∈ lw_all, w.before args s = true) → ∀ x, s.fieldFound? (q.2.1 k).1 (q.2.1 k).2.1 (q.2.1 k).2.2.1 = some x → s.fieldFound? ref (q.2.1 k).2.1 (q.2.1 k).2.2.1 = some x) (hv : fvl b x0 t k ce (σ ce) = v) (hd : decode cc pc = .ok (.getfield idx, 3))
    (kk : GX l cc own nL ret mn xt x0 D b tv dp c0 s0 res σ (pc + 3) lv (v :: st)) : GX l cc own nL ret mn xt x0 D b tv dp c0 s0 res σ pc lv (.ref (ad x0 ce) :: st) := by
  refine ⟨kk.1, fun p e s m args below meth c hC H locs ls hR hS hl' z1 z2 => ?_⟩
  obtain ⟨h1, h2, h3, hin, -, -⟩ := hq
  obtain ⟨cell, q1, q2, q3, q4⟩ := hR.obj ht ⟨h1, h2⟩ h3
  have hCC := hC
  obtain ⟨hx, hb, -, hml, hown, hts, -, hKs, hmnm, -⟩ := hC
  have hl := (hKs.2.2.1 _ hl rfl).use (A := args) rfl
  obtain ⟨hSl, hfc, kC, hkC, hkind⟩ := hKs.1 _ _ h3
  obtain ⟨cf, kf, fi, f, hi, hsl⟩ := hSl k hk
  refine va_Wgetf hx hb hown hl (hsame s args hts _ hi) (u_facts hfc hkC (u_lays hts hin hk) hi).1 q1 (by rw [q3]; exact fun h => by cases h) (v := v) ?_ rfl rfl hd (kk.2 p e s m args below meth c hCC H locs ls hR hS hl' z1 z2)
  rw [hsl, q4 k hk]; exact congrArg some hv
theorem x_slots {t : Nat} {q : vw_C} (hq : ClsW t q) (hts : ∀ w ∈ lw_all, w.before args s = true) (hK : XK x0 D s) : ∀ x y, x < q.2.2 → y < q.2.2 → x ≠ y → D.2.1 (t - 1) x ≠ D.2.1 (t - 1) y := by
  obtain ⟨h1, h2, h3, hin, hnm, ty, hty⟩ := hq
  intro x y hx hy hne
  obtain ⟨hS, -⟩ := hK.1 _ _ h3
  obtain ⟨_, _, _, fa, hia, ea⟩ := hS x hx
  obtain ⟨_, _, _, fb, hib, eb⟩ := hS y hy
  rw [← ea, ← eb]
  refine u_apart (u_lays hts hin hx) (u_lays hts hin hy) hia hib ?_
  rw [(State.fieldFound?_type hia (hty x hx)).1, (State.fieldFound?_type hib (hty y hy)).1]
  exact hnm x hx y hy hne
theorem fvl_up {t k j : Nat} {ce x : Int} (h : j ≠ k) : fvl b x0 t j ce (ux σ ce (k : Int) x ce) = fvl b x0 t j ce (σ ce) := by
  unfold fvl
  rw [ux_i σ ce ce x (by omega : (j : Int) ≠ k)]
theorem ad_inj {x0 : Nat} (h0 : 0 < x0) {a b : Int} (ha : 0 ≤ a) (hb : b ≠ -1) (h : ad x0 b = ad x0 a) : b = a := by
  unfold ad at h
  rw [if_pos ha] at h
  split at h <;> omega
theorem tg_up {ce x : Int} {i : Int} (hi : 0 ≤ i) (c' : Int) : tg b (ux σ ce i x) c' = tg b σ c' := by
  unfold tg
  rw [ux_i σ ce c' x (by omega : (-1 : Int) ≠ i)]
theorem ln_up {ce x : Int} {i : Int} (hi : 0 ≤ i) (c' : Int) : ln b (ux σ ce i x) c' = ln b σ c' := by
  unfold ln
  rw [ux_i σ ce c' x (by omega : (-2 : Int) ≠ i)]
theorem nC_up {ce i x : Int} (hc : ce ≠ -1) : nC (ux σ ce i x) = nC σ := by unfold nC; rw [ux_c σ i x 0 (fun h => hc h.symm)]
theorem nS_up {ce i x : Int} (hc : ce ≠ -1) : nS (ux σ ce i x) = nS σ := by unfold nS; rw [ux_c σ i x 1 (fun h => hc h.symm)]
theorem COK.kept {H H1 : Heap} {t : Nat} {n ce : Int} {f : Int → Int} (h : COK b x0 D t n ce f H) (e : H1[ad x0 ce]? = H[ad x0 ce]?) : COK b x0 D t n ce f H1 := by
  unfold COK at h ⊢
  split
  · rename_i hlt
    rw [if_pos hlt] at h
    obtain ⟨q, hq, ho⟩ := h
    exact ⟨q, hq, ho.kept e⟩
  · rename_i hlt
    rw [if_neg hlt] at h
    exact ⟨h.1, by rw [e]; exact h.2⟩
/-- a write into one cell gives the picture of the new state -/
theorem XRp.put {H H1 : Heap} (hR : XRp b x0 D σ H) {ce i x : Int} (hc : 0 ≤ ce) (hi : 0 ≤ i) (hz : H1.size = H.size) (e3 : ∀ q : Nat, q ≠ ad x0 ce → H1[q]? = H[q]?)
    (hn : tg b σ ce ≠ 0 → COK b x0 D (tg b σ ce) (ln b σ ce) ce (ux σ ce i x ce) H1) : XRp b x0 D (ux σ ce i x) H1 := by
  obtain ⟨h0, h1, h2, h3, h4, h5⟩ := hR
  refine ⟨h0, ?_, ?_, ?_, ?_, fun c' hc' => ?_⟩
  · rw [ux_c σ i x 0 (by omega : (-1 : Int) ≠ ce)]; exact h1
  · rw [ux_c σ i x 1 (by omega : (-1 : Int) ≠ ce)]; exact h2
  · exact ⟨by rw [ux_c σ i x 0 (by omega : (-1 : Int) ≠ ce)]; exact h3.1, fun k => by rw [ux_c σ i x _ (by omega : (-1 : Int) ≠ ce)]; exact h3.2 k⟩
  · rw [hz, h4, nC_up (by omega)]
  · rw [tg_up hi] at hc' ⊢
    rw [ln_up hi, ux_c σ i x 0 (by omega : (-1 : Int) ≠ ce)]
    obtain ⟨a1, a2, a3⟩ := h5 c' hc'
    refine ⟨a1, a2, ?_⟩
    by_cases hce : c' = ce
    · subst hce; exact hn hc'
    · have : ux σ ce i x c' = σ c' := by funext j; exact ux_c σ i x j hce
      rw [this]
      exact a3.kept (e3 _ (fun h => hce (ad_inj h0 hc a2 h)))
theorem XA_ad {ce : Int} (h0 : 0 ≤ ce) (h : ¬ (1438 ≤ ce ∧ ce < 1514)) : XA x0 (ad x0 ce) := by
  unfold XA ad
  rw [if_pos h0]
  omega
def isRefD : FieldType → Bool
  | .object _ => true
  | .array _ => true
  | _ => false
theorem gx_putI (hC : XC p s m args meth c cc own nL ret mn xt x0 D) {t k : Nat} {ce x : Int} {q : vw_C} {v : Value} {τ' : XS} {H H' : Heap} (hR : XRp b x0 D σ H) (hq : ClsW t q) (hk : k < q.2.2) (ht : tg b σ ce = t) (h0 : 0 ≤ ce) (hv : fvl b x0 t k ce (ux σ ce k x ce) = v) (hs' : τ' = ux σ ce k x) {cell : Cell} (q1 : H[ad x0 ce]? = some cell) (q2 : cell.cls = D.1 (t - 1)) (q3 : cell.vm = .none) (q4 : ∀ j, j < q.2.2 → cell.slots[D.2.1 (t - 1) j]? = some (fvl b x0 t j ce (σ ce)))
    (e1 : H'[ad x0 ce]? = some (cell.setSlot (D.2.1 (t - 1) k) v)) (e2 : H'.size = H.size) (e3 : ∀ z : Nat, z ≠ ad x0 ce → H'[z]? = H[z]?) : XRp b x0 D τ' H' := by
  subst hs'
  have hap := x_slots hq hC.2.2.2.2.2.1 hC.2.2.2.2.2.2.2.1
  obtain ⟨h1, h2, h3, hin, -, -⟩ := hq
  refine hR.put h0 (by omega) e2 e3 fun _ => ?_
  rw [ht]
  unfold COK
  rw [if_pos h2]
  refine ⟨q, h3, t_OB.to (V := updV (fun j => fvl b x0 t j ce (σ ce)) k v) ⟨_, e1, q2, q3, t_set q4 hap hk v⟩ (fun j _ => ?_)⟩
  by_cases h : j = k
  · subst h; simp [updV, hv]
  · simp only [updV, h, if_false]; exact (fvl_up h).symm
theorem gx_put (pc : Nat) {t k idx : Nat} {ce x : Int} {ref : String} {q : vw_C} {ty : FieldType} {v : Value} {τ' : XS} (hq : ClsW t q) (hk : k < q.2.2) (ht : tg b σ ce = t) (h0 : 0 ≤ ce) (hm : ¬ (1438 ≤ ce ∧ ce < 1514)) (hl : Cond.fieldLink own idx ref (q.2.1 k).2.1 (q.2.1 k).2.2.1 ∈ lw_all) (hsame : ∀ (s : State) (args : Array Value), (∀ w ∈ lw_all, w.before args s = true) → ∀ x, s.fieldFound? (q.2.1 k).1 (q.2.1 k).2.1 (q.2.1 k).2.2.1 = some x → s.fieldFound? ref (q.2.1 k).2.1 (q.2.1 k).2.2.1 = some x) (hfin : (q.2.1 k).2.2.2 = false) (hd0 : parseFieldDescriptor (q.2.1 k).2.2.1 = some ty) (hn : narrow ty v = v) (hfit : fits ty v = true) (hv : fvl b x0 t k ce (ux σ ce k x ce) = v) (hs' : τ' = ux σ ce k x) (hd : decode cc pc = .ok (.putfield idx, 3))
    (kk : GX l cc own nL ret mn xt x0 D b tv dp c0 s0 res τ' (pc + 3) lv st) : GX l cc own nL ret mn xt x0 D b tv dp c0 s0 res σ pc lv (v :: .ref (ad x0 ce) :: st) := by
  have hle : nC τ' = nC σ ∧ nS τ' = nS σ := by subst hs'; exact ⟨nC_up (by omega), nS_up (by omega)⟩
  refine ⟨⟨by rw [← hle.1]; exact kk.1.1, by rw [← hle.2]; exact kk.1.2⟩, fun p e s m args below meth c hC H locs ls hR hS hl' z1 z2 => ?_⟩
  have hq' := hq
  obtain ⟨h1, h2, h3, hin, -, -⟩ := hq
  obtain ⟨cell, q1, q2, q3, q4⟩ := hR.obj ht ⟨h1, h2⟩ h3
  have hCC := hC
  obtain ⟨hx, hb, -, hml, hown, hts, -, hKs, hmnm, -⟩ := hC
  obtain ⟨hSl, hfc, kC, hkC, hkind⟩ := hKs.1 _ _ h3
  obtain ⟨cf, kf, fi, f, hi, hsl⟩ := hSl k hk
  have hlay := hts _ (hin _ (u_in_lay hk))
  unfold u_lay at hlay
  rw [if_neg (by rw [hfin]; decide)] at hlay
  have hst := (u_facts hfc hkC (u_lays hts hin hk) hi).1
  have h6 := u_store hfc hkC hkind hlay hi hd0 hn hfit
  refine W.putK hx hb (f := f) ⟨hown, hts _ hl, ⟨_, _, _, hsame s args hts _ hi⟩, hst⟩ (by rw [q2]; exact h6) q1 q3 (by rw [hsl]; exact k2_hasslot (q4 k hk)) rfl rfl hd fun H' e1 e2 e3 => ?_
  rw [hsl] at e1 ⊢
  rw [← hle.1] at z1 ⊢
  rw [← hle.2] at z2 ⊢
  exact kk.2 p e s m args below meth c hCC H' _ ls (gx_putI hCC hR hq' hk ht h0 hv hs' q1 q2 q3 q4 e1 e2 e3) (hS.put e2 e3 (XA_ad h0 hm)) hl' z1 z2
theorem gx_putN (pc : Nat) {t k idx : Nat} {ce x : Int} {ref host : String} {q : vw_C} {ty : FieldType} {v : Value} {τ' : XS} (hq : ClsW t q) (hk : k < q.2.2) (ht : tg b σ ce = t) (h0 : 0 ≤ ce) (hm : ¬ (1438 ≤ ce ∧ ce < 1514)) (hl : Cond.fieldLinkNest own idx ref (q.2.1 k).2.1 (q.2.1 k).2.2.1 host ∈ lw_tbl) (hsame : ∀ (s : State) (args : Array Value), (∀ w ∈ lw_all, w.before args s = true) → ∀ x, s.fieldFound? (q.2.1 k).1 (q.2.1 k).2.1 (q.2.1 k).2.2.1 = some x → s.fieldFound? ref (q.2.1 k).2.1 (q.2.1 k).2.2.1 = some x) (hfin : (q.2.1 k).2.2.2 = false) (hd0 : parseFieldDescriptor (q.2.1 k).2.2.1 = some ty) (hn : narrow ty v = v) (hfit : fits ty v = true) (hv : fvl b x0 t k ce (ux σ ce k x ce) = v) (hs' : τ' = ux σ ce k x) (hd : decode cc pc = .ok (.putfield idx, 3))
    (kk : GX l cc own nL ret mn xt x0 D b tv dp c0 s0 res τ' (pc + 3) lv st) : GX l cc own nL ret mn xt x0 D b tv dp c0 s0 res σ pc lv (v :: .ref (ad x0 ce) :: st) := by
  have hle : nC τ' = nC σ ∧ nS τ' = nS σ := by subst hs'; exact ⟨nC_up (by omega), nS_up (by omega)⟩
  refine ⟨⟨by rw [← hle.1]; exact kk.1.1, by rw [← hle.2]; exact kk.1.2⟩, fun p e s m args below meth c hC H locs ls hR hS hl' z1 z2 => ?_⟩
  have hq' := hq
  obtain ⟨h1, h2, h3, hin, -, -⟩ := hq
  obtain ⟨cell, q1, q2, q3, q4⟩ := hR.obj ht ⟨h1, h2⟩ h3
  have hCC := hC
  obtain ⟨hx, hb, -, hml, hown, hts, -, hKs, hmnm, -⟩ := hC
  have hl := (hKs.2.2.1 _ hl rfl).use (A := args) rfl
  obtain ⟨hSl, hfc, kC, hkC, hkind⟩ := hKs.1 _ _ h3
  obtain ⟨cf, kf, fi, f, hi, hsl⟩ := hSl k hk
  have hlay := hts _ (hin _ (u_in_lay hk))
  unfold u_lay at hlay
  rw [if_neg (by rw [hfin]; decide)] at hlay
  have hst := (u_facts hfc hkC (u_lays hts hin hk) hi).1
  have h6 := u_store hfc hkC hkind hlay hi hd0 hn hfit
  refine va_WputK hx hb (f := f) hown hl (hsame s args hts _ hi) hst (by rw [q2]; exact h6) q1 q3 (by rw [hsl]; exact k2_hasslot (q4 k hk)) rfl rfl hd fun H' e1 e2 e3 => ?_
  rw [hsl] at e1 ⊢
  rw [← hle.1] at z1 ⊢
  rw [← hle.2] at z2 ⊢
  exact kk.2 p e s m args below meth c hCC H' _ ls (gx_putI hCC hR hq' hk ht h0 hv hs' q1 q2 q3 q4 e1 e2 e3) (hS.put e2 e3 (XA_ad h0 hm)) hl' z1 z2
theorem gx_putF (pc : Nat) (hmn : mn = "<init>") {t k idx : Nat} {ce x : Int} {ref : String} {q : vw_C} {ty : FieldType} {v : Value} {τ' : XS} (hq : ClsW t q) (hk : k < q.2.2) (ht : tg b σ ce = t) (h0 : 0 ≤ ce) (hm : ¬ (1438 ≤ ce ∧ ce < 1514)) (hl : Cond.fieldLink own idx ref (q.2.1 k).2.1 (q.2.1 k).2.2.1 ∈ lw_all) (hsame : ∀ (s : State) (args : Array Value), (∀ w ∈ lw_all, w.before args s = true) → ∀ x, s.fieldFound? (q.2.1 k).1 (q.2.1 k).2.1 (q.2.1 k).2.2.1 = some x → s.fieldFound? ref (q.2.1 k).2.1 (q.2.1 k).2.2.1 = some x) (hfin : (q.2.1 k).2.2.2 = true) (hdecl : (q.2.1 k).1 = own) (hd0 : parseFieldDescriptor (q.2.1 k).2.2.1 = some ty) (hn : narrow ty v = v) (hfit : fits ty v = true) (hv : fvl b x0 t k ce (ux σ ce k x ce) = v) (hs' : τ' = ux σ ce k x) (hd : decode cc pc = .ok (.putfield idx, 3))
    (kk : GX l cc own nL ret mn xt x0 D b tv dp c0 s0 res τ' (pc + 3) lv st) : GX l cc own nL ret mn xt x0 D b tv dp c0 s0 res σ pc lv (v :: .ref (ad x0 ce) :: st) := by
  have hle : nC τ' = nC σ ∧ nS τ' = nS σ := by subst hs'; exact ⟨nC_up (by omega), nS_up (by omega)⟩
  refine ⟨⟨by rw [← hle.1]; exact kk.1.1, by rw [← hle.2]; exact kk.1.2⟩, fun p e s m args below meth c hC H locs ls hR hS hl' z1 z2 => ?_⟩
  have hq' := hq
  obtain ⟨h1, h2, h3, hin, -, -⟩ := hq
  obtain ⟨cell, q1, q2, q3, q4⟩ := hR.obj ht ⟨h1, h2⟩ h3
  have hCC := hC
  obtain ⟨hx, hb, -, hml, hown, hts, -, hKs, hmnm, -⟩ := hC
  obtain ⟨hSl, hfc, kC, hkC, hkind⟩ := hKs.1 _ _ h3
  obtain ⟨cf, kf, fi, f, hi, hsl⟩ := hSl k hk
  have hlay := hts _ (hin _ (u_in_lay hk))
  unfold u_lay at hlay
  rw [if_pos hfin] at hlay
  have hst := (u_facts hfc hkC (u_lays hts hin hk) hi).1
  have hcf : m.cls = cf := by
    obtain ⟨_, _, c', _, _, _, -, -, hf', -, -, -, hown2, -⟩ := Cond.laysFinal_spec hlay
    have e1 : c' = cf := by have := hi.symm.trans hf'; simp at this; exact this.1.symm
    rw [hdecl] at hown2
    rw [← e1]; exact Option.some.inj (hown.symm.trans hown2)
  have h6 := u_fits hfc hkC hkind (Or.inr hlay) hi hd0 hn hfit
  refine W.putFinK hx hb hown (hts _ hl) (hsame s args hts _ hi) hst hcf (hmnm.trans hmn) (by rw [q2]; exact h6) q1 q3 (by rw [hsl]; exact k2_hasslot (q4 k hk)) rfl rfl hd fun H' e1 e2 e3 => ?_
  rw [hsl] at e1 ⊢
  rw [← hle.1] at z1 ⊢
  rw [← hle.2] at z2 ⊢
  exact kk.2 p e s m args below meth c hCC H' _ ls (gx_putI hCC hR hq' hk ht h0 hv hs' q1 q2 q3 q4 e1 e2 e3) (hS.put e2 e3 (XA_ad h0 hm)) hl' z1 z2
theorem nullOk {ty : FieldType} (h : isRefD ty = true) : narrow ty .null = .null ∧ fits ty .null = true := by cases ty <;> first | exact ⟨rfl, rfl⟩ | cases h
theorem refOk {ty : FieldType} (h : isRefD ty = true) (a : Nat) : narrow ty (.ref a) = .ref a ∧ fits ty (.ref a) = true := by cases ty <;> first | exact ⟨rfl, rfl⟩ | cases h
/-! arrays -/
theorem aK {n : Nat} {ty : FieldType} (h : (n, ty) ∈ arrK) (hK : XK x0 D s) : ArrOfT s (D.2.2.1 n) ty := (hK.2.1 _ h).1
theorem x_rd {cA : ClassId} {n i : Int} (h : ok n i) (V : Int → Value) : (arrV cA n.toNat (fun j => V (j : Int))).slots[(Int32.ofInt i).toNatClampNeg]? = some (V (i32 i)) := by
  have := ok_ix h
  have := h.2
  rw [arrV_read _ _ (by omega), ok_ix h]
theorem ok_inT {n i : Int} (h : ok n i) : vp_in (Int32.ofInt i) n.toNat := by rw [vp_in_iff, toInt_ofInt32]; have := h.1; have := h.2; omega
theorem gx_iald (pc : Nat) {ce i : Int} (ht : tg b σ ce = 101) (hi : ok (ln b σ ce) i) (hd : decode cc pc = .ok (.iaload, 1))
    (kk : GX l cc own nL ret mn xt x0 D b tv dp c0 s0 res σ (pc + 1) lv (J (σ ce (i32 i)) :: st)) : GX l cc own nL ret mn xt x0 D b tv dp c0 s0 res σ pc lv (J i :: .ref (ad x0 ce) :: st) :=
  ⟨kk.1, fun p e s m args below meth c hC H locs ls hR hS hv z1 z2 => W.iald hC.1 hC.2.1 (hR.arr ht (by decide)).2 (aK (by decide) hC.2.2.2.2.2.2.2.1 _ _) (fun q => by cases q) (by rw [arrV_size]; exact ok_inT hi) (x_rd hi (fun j => J (σ ce j))) rfl rfl hd (kk.2 p e s m args below meth c hC H locs ls hR hS hv z1 z2)⟩
theorem gx_bald (pc : Nat) {ce i : Int} (ht : tg b σ ce = 102) (hi : ok (ln b σ ce) i) (hd : decode cc pc = .ok (.baload, 1))
    (kk : GX l cc own nL ret mn xt x0 D b tv dp c0 s0 res σ (pc + 1) lv (J (σ ce (i32 i)) :: st)) : GX l cc own nL ret mn xt x0 D b tv dp c0 s0 res σ pc lv (J i :: .ref (ad x0 ce) :: st) :=
  ⟨kk.1, fun p e s m args below meth c hC H locs ls hR hS hv z1 z2 => W.bald hC.1 hC.2.1 (hR.arr ht (by decide)).2 (aK (by decide) hC.2.2.2.2.2.2.2.1 _ _) (fun q => by cases q) (by rw [arrV_size]; exact ok_inT hi) (x_rd hi (fun j => J (σ ce j))) rfl rfl hd (kk.2 p e s m args below meth c hC H locs ls hR hS hv z1 z2)⟩
theorem gx_zald (pc : Nat) {ce i : Int} (ht : tg b σ ce = 103) (hi : ok (ln b σ ce) i) (hd : decode cc pc = .ok (.baload, 1))
    (kk : GX l cc own nL ret mn xt x0 D b tv dp c0 s0 res σ (pc + 1) lv (J (σ ce (i32 i)) :: st)) : GX l cc own nL ret mn xt x0 D b tv dp c0 s0 res σ pc lv (J i :: .ref (ad x0 ce) :: st) :=
  ⟨kk.1, fun p e s m args below meth c hC H locs ls hR hS hv z1 z2 => W.zald hC.1 hC.2.1 (hR.arr ht (by decide)).2 (aK (by decide) hC.2.2.2.2.2.2.2.1 _ _) (fun q => by cases q) (by rw [arrV_size]; exact ok_inT hi) (x_rd hi (fun j => J (σ ce j))) rfl rfl hd (kk.2 p e s m args below meth c hC H locs ls hR hS hv z1 z2)⟩
theorem gx_cald (pc : Nat) {ce i : Int} (ht : tg b σ ce = 105) (hi : ok (ln b σ ce) i) (hd : decode cc pc = .ok (.caload, 1))
    (kk : GX l cc own nL ret mn xt x0 D b tv dp c0 s0 res σ (pc + 1) lv (J (σ ce (i32 i)) :: st)) : GX l cc own nL ret mn xt x0 D b tv dp c0 s0 res σ pc lv (J i :: .ref (ad x0 ce) :: st) :=
  ⟨kk.1, fun p e s m args below meth c hC H locs ls hR hS hv z1 z2 => W.cald hC.1 hC.2.1 (hR.arr ht (by decide)).2 (aK (by decide) hC.2.2.2.2.2.2.2.1 _ _) (fun q => by cases q) (by rw [arrV_size]; exact ok_inT hi) (x_rd hi (fun j => J (σ ce j))) rfl rfl hd (kk.2 p e s m args below meth c hC H locs ls hR hS hv z1 z2)⟩
theorem gx_lald (pc : Nat) {ce i : Int} (ht : tg b σ ce = 104) (hi : ok (ln b σ ce) i) (hd : decode cc pc = .ok (.laload, 1))
    (kk : GX l cc own nL ret mn xt x0 D b tv dp c0 s0 res σ (pc + 1) lv (Lg (σ ce (i32 i)) :: st)) : GX l cc own nL ret mn xt x0 D b tv dp c0 s0 res σ pc lv (J i :: .ref (ad x0 ce) :: st) :=
  ⟨kk.1, fun p e s m args below meth c hC H locs ls hR hS hv z1 z2 => W.lald hC.1 hC.2.1 (hR.arr ht (by decide)).2 (aK (by decide) hC.2.2.2.2.2.2.2.1 _ _) (fun q => by cases q) (by rw [arrV_size]; exact ok_inT hi) (x_rd hi (fun j => Lg (σ ce j))) rfl rfl hd (kk.2 p e s m args below meth c hC H locs ls hR hS hv z1 z2)⟩
theorem gx_aald (pc : Nat) {t : Nat} {ty : FieldType} {ce i r : Int} (hty : (t, ty) ∈ arrK) (hrt : ty.isReference = true) (h1 : 100 ≤ t) (ht : tg b σ ce = t) (hi : ok (ln b σ ce) i) (hv : evl b x0 t ce (i32 i) (σ ce (i32 i)) = rf x0 r) (hr : r ≠ -1) (hd : decode cc pc = .ok (.aaload, 1))
    (kk : GX l cc own nL ret mn xt x0 D b tv dp c0 s0 res σ (pc + 1) lv (.ref (ad x0 r) :: st)) : GX l cc own nL ret mn xt x0 D b tv dp c0 s0 res σ pc lv (J i :: .ref (ad x0 ce) :: st) :=
  ⟨kk.1, fun p e s m args below meth c hC H locs ls hR hS hl z1 z2 => W.aald hC.1 hC.2.1 (hR.arr ht h1).2 (aK hty hC.2.2.2.2.2.2.2.1 _ _) hrt (fun q => by cases q) (by rw [arrV_size]; exact ok_inT hi) (by rw [x_rd hi (fun j => evl b x0 t ce j (σ ce j)), hv, rf_ne hr]) rfl rfl hd (kk.2 p e s m args below meth c hC H locs ls hR hS hl z1 z2)⟩
theorem gx_alen (pc : Nat) {t : Nat} {ty : FieldType} {ce : Int} (hty : (t, ty) ∈ arrK) (h1 : 100 ≤ t) (ht : tg b σ ce = t) (hd : decode cc pc = .ok (.arraylength, 1))
    (kk : GX l cc own nL ret mn xt x0 D b tv dp c0 s0 res σ (pc + 1) lv (J (ln b σ ce) :: st)) : GX l cc own nL ret mn xt x0 D b tv dp c0 s0 res σ pc lv (.ref (ad x0 ce) :: st) :=
  ⟨kk.1, fun p e s m args below meth c hC H locs ls hR hS hl z1 z2 => W.alen (n := Int32.ofInt (ln b σ ce)) hC.1 hC.2.1 (hR.arr ht h1).2 (aK hty hC.2.2.2.2.2.2.2.1 _ _) (by
    rw [arrV_size]
    have := (hR.arr ht h1).1
    conv => rhs; rw [← Int.toNat_of_nonneg this]
    rfl) rfl rfl hd (kk.2 p e s m args below meth c hC H locs ls hR hS hl z1 z2)⟩
theorem x_arr {cA : ClassId} {n i x ce : Int} (h : ok n i) (V : Int → Int → Value) : (arrV cA n.toNat (fun j => V (j : Int) (σ ce (j : Int)))).setSlot (Int32.ofInt i).toNatClampNeg (V (i32 i) x) = arrV cA n.toNat (fun j => V (j : Int) (ux σ ce (i32 i) x ce (j : Int))) := by
  rw [arrV_store]
  congr 1
  funext j
  have := ok_ix h
  by_cases hj : j = (Int32.ofInt i).toNatClampNeg
  · subst hj; rw [updV, if_pos rfl, this, ux_s]
  · rw [updV, if_neg hj, ux_i _ _ _ _ (by omega)]
theorem gx_ast {t : Nat} {ce i x : Int} {τ' : XS} {H H' : Heap} (hR : XRp b x0 D σ H) (ht : tg b σ ce = t) (h1 : 100 ≤ t) (h0 : 0 ≤ ce) (hi : ok (ln b σ ce) i) (hs' : τ' = ux σ ce (i32 i) x)
    (e1 : H'[ad x0 ce]? = some ((arrV (D.2.2.1 t) (ln b σ ce).toNat (fun j => evl b x0 t ce j (σ ce j))).setSlot (Int32.ofInt i).toNatClampNeg (evl b x0 t ce (i32 i) x))) (e2 : H'.size = H.size) (e3 : ∀ z : Nat, z ≠ ad x0 ce → H'[z]? = H[z]?) : XRp b x0 D τ' H' := by
  subst hs'
  refine hR.put h0 hi.1 e2 e3 fun _ => ?_
  rw [ht]
  unfold COK
  rw [if_neg (by omega)]
  exact ⟨(hR.arr ht h1).1, by rw [e1]; exact congrArg some (x_arr hi (fun j v => evl b x0 t ce j v))⟩
theorem gx_le {ce i x : Int} {τ' : XS} (h0 : 0 ≤ ce) (hs' : τ' = ux σ ce i x) : nC τ' = nC σ ∧ nS τ' = nS σ := by subst hs'; exact ⟨nC_up (by omega), nS_up (by omega)⟩
theorem gx_iast (pc : Nat) {ce i x : Int} {τ' : XS} (ht : tg b σ ce = 101) (h0 : 0 ≤ ce) (hm : ¬ (1438 ≤ ce ∧ ce < 1514)) (hi : ok (ln b σ ce) i) (hs' : τ' = ux σ ce (i32 i) x) (hd : decode cc pc = .ok (.iastore, 1))
    (kk : GX l cc own nL ret mn xt x0 D b tv dp c0 s0 res τ' (pc + 1) lv st) : GX l cc own nL ret mn xt x0 D b tv dp c0 s0 res σ pc lv (J x :: J i :: .ref (ad x0 ce) :: st) := by
  have hle := gx_le h0 hs'
  refine ⟨⟨by rw [← hle.1]; exact kk.1.1, by rw [← hle.2]; exact kk.1.2⟩, fun p e s m args below meth c hC H locs ls hR hS hl z1 z2 => ?_⟩
  refine W.iast hC.1 hC.2.1 (hR.arr ht (by decide)).2 (aK (by decide) hC.2.2.2.2.2.2.2.1 _ _) (fun q => by cases q) (by rw [arrV_size]; exact ok_inT hi) rfl rfl hd fun H' e1 e2 e3 => ?_
  rw [← hle.1] at z1 ⊢
  rw [← hle.2] at z2 ⊢
  exact kk.2 p e s m args below meth c hC H' _ ls (gx_ast hR ht (by decide) h0 hi hs' e1 e2 e3) (hS.put e2 e3 (XA_ad h0 hm)) hl z1 z2
theorem i8_narrow (x : Int) : narrow .byte (.int (Int32.ofInt x)) = J (i8 x) := by
  show Value.int _ = Value.int _
  congr 1
  rw [← Int32.toInt_inj, Int8.toInt_toInt32, Int32.toInt8_ofInt, Int8.toInt_ofInt, toInt_ofInt32]
  have h1 := @Int.le_bmod x 256 (by decide)
  have h2 := @Int.bmod_lt x 256 (by decide)
  exact (i32_id (a := i8 x) (by unfold i8; omega) (by unfold i8; omega)).symm
theorem gx_bast (pc : Nat) {ce i x : Int} {τ' : XS} (ht : tg b σ ce = 102) (h0 : 0 ≤ ce) (hm : ¬ (1438 ≤ ce ∧ ce < 1514)) (hi : ok (ln b σ ce) i) (hs' : τ' = ux σ ce (i32 i) (i8 x)) (hd : decode cc pc = .ok (.bastore, 1))
    (kk : GX l cc own nL ret mn xt x0 D b tv dp c0 s0 res τ' (pc + 1) lv st) : GX l cc own nL ret mn xt x0 D b tv dp c0 s0 res σ pc lv (J x :: J i :: .ref (ad x0 ce) :: st) := by
  have hle := gx_le h0 hs'
  refine ⟨⟨by rw [← hle.1]; exact kk.1.1, by rw [← hle.2]; exact kk.1.2⟩, fun p e s m args below meth c hC H locs ls hR hS hl z1 z2 => ?_⟩
  refine W.bast hC.1 hC.2.1 (hR.arr ht (by decide)).2 (aK (by decide) hC.2.2.2.2.2.2.2.1 _ _) (fun q => by cases q) (by rw [arrV_size]; exact ok_inT hi) rfl rfl hd fun H' e1 e2 e3 => ?_
  rw [i8_narrow] at e1
  rw [← hle.1] at z1 ⊢
  rw [← hle.2] at z2 ⊢
  exact kk.2 p e s m args below meth c hC H' _ ls (gx_ast hR ht (by decide) h0 hi hs' e1 e2 e3) (hS.put e2 e3 (XA_ad h0 hm)) hl z1 z2
theorem gx_zast (pc : Nat) {ce i x : Int} {τ' : XS} (ht : tg b σ ce = 103) (h0 : 0 ≤ ce) (hm : ¬ (1438 ≤ ce ∧ ce < 1514)) (hi : ok (ln b σ ce) i) (hb : bz x) (hs' : τ' = ux σ ce (i32 i) x) (hd : decode cc pc = .ok (.bastore, 1))
    (kk : GX l cc own nL ret mn xt x0 D b tv dp c0 s0 res τ' (pc + 1) lv st) : GX l cc own nL ret mn xt x0 D b tv dp c0 s0 res σ pc lv (J x :: J i :: .ref (ad x0 ce) :: st) := by
  have hle := gx_le h0 hs'
  refine ⟨⟨by rw [← hle.1]; exact kk.1.1, by rw [← hle.2]; exact kk.1.2⟩, fun p e s m args below meth c hC H locs ls hR hS hl z1 z2 => ?_⟩
  refine W.zast hC.1 hC.2.1 (hR.arr ht (by decide)).2 (aK (by decide) hC.2.2.2.2.2.2.2.1 _ _) (fun q => by cases q) (by rw [arrV_size]; exact ok_inT hi) rfl rfl hd fun H' e1 e2 e3 => ?_
  have hn : narrow .boolean (.int (Int32.ofInt x)) = J x := bz_narrow hb
  rw [hn] at e1
  rw [← hle.1] at z1 ⊢
  rw [← hle.2] at z2 ⊢
  exact kk.2 p e s m args below meth c hC H' _ ls (gx_ast hR ht (by decide) h0 hi hs' e1 e2 e3) (hS.put e2 e3 (XA_ad h0 hm)) hl z1 z2
theorem gx_last (pc : Nat) {ce i x : Int} {τ' : XS} (ht : tg b σ ce = 104) (h0 : 0 ≤ ce) (hm : ¬ (1438 ≤ ce ∧ ce < 1514)) (hi : ok (ln b σ ce) i) (hs' : τ' = ux σ ce (i32 i) x) (hd : decode cc pc = .ok (.lastore, 1))
    (kk : GX l cc own nL ret mn xt x0 D b tv dp c0 s0 res τ' (pc + 1) lv st) : GX l cc own nL ret mn xt x0 D b tv dp c0 s0 res σ pc lv (Lg x :: J i :: .ref (ad x0 ce) :: st) := by
  have hle := gx_le h0 hs'
  refine ⟨⟨by rw [← hle.1]; exact kk.1.1, by rw [← hle.2]; exact kk.1.2⟩, fun p e s m args below meth c hC H locs ls hR hS hl z1 z2 => ?_⟩
  refine W.last hC.1 hC.2.1 (hR.arr ht (by decide)).2 (aK (by decide) hC.2.2.2.2.2.2.2.1 _ _) (fun q => by cases q) (by rw [arrV_size]; exact ok_inT hi) rfl rfl hd fun H' e1 e2 e3 => ?_
  rw [← hle.1] at z1 ⊢
  rw [← hle.2] at z2 ⊢
  exact kk.2 p e s m args below meth c hC H' _ ls (gx_ast hR ht (by decide) h0 hi hs' e1 e2 e3) (hS.put e2 e3 (XA_ad h0 hm)) hl z1 z2
end GXrows
