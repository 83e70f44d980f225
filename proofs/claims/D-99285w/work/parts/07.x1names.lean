/-! VerbAtDusk$Country -/
set_option maxRecDepth 100000
def RX1 : String := "VerbAtDusk$Country"
def TX1 : u_T := fun k => match k with
  | 0 => ("VerbAtDusk$Country", "statements", "I", false)
  | 1 => ("VerbAtDusk$Country", "dusk", "I", false)
  | 2 => ("VerbAtDusk$Country", "lent", "I", false)
  | 3 => ("VerbAtDusk$Country", "ditch", "I", false)
  | 4 => ("VerbAtDusk$Country", "sayings", "Ljava/util/List;", true)
  | 5 => ("VerbAtDusk$Country", "verbs", "Ljava/util/List;", true)
  | 6 => ("VerbAtDusk$Country", "takes", "LVerbAtDusk$Test;", false)
  | 7 => ("VerbAtDusk$Country", "well", "LVerbAtDusk$Value;", false)
  | _ => ("VerbAtDusk$Country", "turns", "LVerbAtDusk$Value;", false)
def tyX1 : Nat → FieldType := fun k => match k with
  | 0 => .int
  | 1 => .int
  | 2 => .int
  | 3 => .int
  | 4 => .object "java/util/List"
  | 5 => .object "java/util/List"
  | 6 => .object "VerbAtDusk$Test"
  | 7 => .object "VerbAtDusk$Value"
  | _ => .object "VerbAtDusk$Value"
abbrev wsX10 : List Cond := u_ws RX1 TX1 9
theorem nmX1 : ∀ a, a < 9 → ∀ b, b < 9 → a ≠ b → (TX1 a).2.1 ≠ (TX1 b).2.1 := by decide +kernel
theorem tyX1_ok : ∀ k, k < 9 → parseFieldDescriptor (TX1 k).2.2.1 = some (tyX1 k) := by decide +kernel
abbrev cX1_init : ByteArray := prog_5_method_1_code
def yX1_init : MethodName := ⟨RX1, "<init>", "()V"⟩
def dkwX1_init_1 : List UInt8 := [183, 0, 11, 181, 0, 20, 177]
abbrev dktX1_init_1 : List UInt8 := dkwX1_init_1 ++ []
def dkwX1_init_0 : List UInt8 := [42, 183, 0, 3, 42, 187, 0, 9, 89, 5, 183, 0, 11, 181, 0, 14, 42, 187, 0, 9, 89, 7]
abbrev dktX1_init_0 : List UInt8 := dkwX1_init_0 ++ dktX1_init_1
theorem dksX1_init_0 : cX1_init.data.toList.drop 0 = dktX1_init_0 := by decide +kernel
theorem dksX1_init_1 : cX1_init.data.toList.drop 22 = dktX1_init_1 := dk_seg dksX1_init_0 22 rfl rfl
theorem dX1_init_0 : decode cX1_init 0 = .ok (.aload_n 0, 1) := dk_42 (dk_at dksX1_init_0 0 rfl rfl)
theorem dX1_init_1 : decode cX1_init 1 = .ok (.invokespecial 3, 3) := dk_183 0 3 (dk_at dksX1_init_0 1 rfl rfl)
theorem dX1_init_4 : decode cX1_init 4 = .ok (.aload_n 0, 1) := dk_42 (dk_at dksX1_init_0 4 rfl rfl)
theorem dX1_init_5 : decode cX1_init 5 = .ok (.new 9, 3) := dk_187 0 9 (dk_at dksX1_init_0 5 rfl rfl)
theorem dX1_init_8 : decode cX1_init 8 = .ok (.dup, 1) := dk_89 (dk_at dksX1_init_0 8 rfl rfl)
theorem dX1_init_9 : decode cX1_init 9 = .ok (.iconst 2, 1) := dk_5 (dk_at dksX1_init_0 9 rfl rfl)
theorem dX1_init_10 : decode cX1_init 10 = .ok (.invokespecial 11, 3) := dk_183 0 11 (dk_at dksX1_init_0 10 rfl rfl)
theorem dX1_init_13 : decode cX1_init 13 = .ok (.putfield 14, 3) := dk_181 0 14 (dk_at dksX1_init_0 13 rfl rfl)
theorem dX1_init_16 : decode cX1_init 16 = .ok (.aload_n 0, 1) := dk_42 (dk_at dksX1_init_0 16 rfl rfl)
theorem dX1_init_17 : decode cX1_init 17 = .ok (.new 9, 3) := dk_187 0 9 (dk_at dksX1_init_0 17 rfl rfl)
theorem dX1_init_20 : decode cX1_init 20 = .ok (.dup, 1) := dk_89 (dk_at dksX1_init_0 20 rfl rfl)
theorem dX1_init_21 : decode cX1_init 21 = .ok (.iconst 4, 1) := dk_7 (dk_at dksX1_init_0 21 rfl rfl)
theorem dX1_init_22 : decode cX1_init 22 = .ok (.invokespecial 11, 3) := dk_183 0 11 (dk_at dksX1_init_1 0 rfl rfl)
theorem dX1_init_25 : decode cX1_init 25 = .ok (.putfield 20, 3) := dk_181 0 20 (dk_at dksX1_init_1 3 rfl rfl)
theorem dX1_init_28 : decode cX1_init 28 = .ok (.return_, 1) := dk_177 (dk_at dksX1_init_1 6 rfl rfl)
abbrev cX1_isNamed : ByteArray := prog_5_method_2_code
def yX1_isNamed : MethodName := ⟨RX1, "isNamed", "(Ljava/lang/String;)Z"⟩
def dkwX1_isNamed_1 : List UInt8 := [4, 167, 0, 4, 3, 172]
abbrev dktX1_isNamed_1 : List UInt8 := dkwX1_isNamed_1 ++ []
def dkwX1_isNamed_0 : List UInt8 := [42, 180, 0, 14, 43, 184, 0, 23, 2, 160, 0, 15, 42, 180, 0, 20, 43, 184, 0, 23, 2, 159, 0, 7]
abbrev dktX1_isNamed_0 : List UInt8 := dkwX1_isNamed_0 ++ dktX1_isNamed_1
theorem dksX1_isNamed_0 : cX1_isNamed.data.toList.drop 0 = dktX1_isNamed_0 := by decide +kernel
theorem dksX1_isNamed_1 : cX1_isNamed.data.toList.drop 24 = dktX1_isNamed_1 := dk_seg dksX1_isNamed_0 24 rfl rfl
theorem dX1_isNamed_0 : decode cX1_isNamed 0 = .ok (.aload_n 0, 1) := dk_42 (dk_at dksX1_isNamed_0 0 rfl rfl)
theorem dX1_isNamed_1 : decode cX1_isNamed 1 = .ok (.getfield 14, 3) := dk_180 0 14 (dk_at dksX1_isNamed_0 1 rfl rfl)
theorem dX1_isNamed_4 : decode cX1_isNamed 4 = .ok (.aload_n 1, 1) := dk_43 (dk_at dksX1_isNamed_0 4 rfl rfl)
theorem dX1_isNamed_5 : decode cX1_isNamed 5 = .ok (.invokestatic 23, 3) := dk_184 0 23 (dk_at dksX1_isNamed_0 5 rfl rfl)
theorem dX1_isNamed_8 : decode cX1_isNamed 8 = .ok (.iconst (-1), 1) := dk_2 (dk_at dksX1_isNamed_0 8 rfl rfl)
theorem dX1_isNamed_9 : decode cX1_isNamed 9 = .ok (.if_icmp .ne 15, 3) := dk_160 0 15 (dk_at dksX1_isNamed_0 9 rfl rfl)
theorem dX1_isNamed_12 : decode cX1_isNamed 12 = .ok (.aload_n 0, 1) := dk_42 (dk_at dksX1_isNamed_0 12 rfl rfl)
theorem dX1_isNamed_13 : decode cX1_isNamed 13 = .ok (.getfield 20, 3) := dk_180 0 20 (dk_at dksX1_isNamed_0 13 rfl rfl)
theorem dX1_isNamed_16 : decode cX1_isNamed 16 = .ok (.aload_n 1, 1) := dk_43 (dk_at dksX1_isNamed_0 16 rfl rfl)
theorem dX1_isNamed_17 : decode cX1_isNamed 17 = .ok (.invokestatic 23, 3) := dk_184 0 23 (dk_at dksX1_isNamed_0 17 rfl rfl)
theorem dX1_isNamed_20 : decode cX1_isNamed 20 = .ok (.iconst (-1), 1) := dk_2 (dk_at dksX1_isNamed_0 20 rfl rfl)
theorem dX1_isNamed_21 : decode cX1_isNamed 21 = .ok (.if_icmp .eq 7, 3) := dk_159 0 7 (dk_at dksX1_isNamed_0 21 rfl rfl)
theorem dX1_isNamed_24 : decode cX1_isNamed 24 = .ok (.iconst 1, 1) := dk_4 (dk_at dksX1_isNamed_1 0 rfl rfl)
theorem dX1_isNamed_25 : decode cX1_isNamed 25 = .ok (.goto 4, 3) := dk_167 0 4 (dk_at dksX1_isNamed_1 1 rfl rfl)
theorem dX1_isNamed_28 : decode cX1_isNamed 28 = .ok (.iconst 0, 1) := dk_3 (dk_at dksX1_isNamed_1 4 rfl rfl)
theorem dX1_isNamed_29 : decode cX1_isNamed 29 = .ok (.ireturn, 1) := dk_172 (dk_at dksX1_isNamed_1 5 rfl rfl)
theorem q148 : (Jvm.Cond.initialized "VerbAtDusk$Country") ∈ lw_all := lw_g (lw_at lw_m1 2 rfl) rfl
theorem q198 : (Jvm.Cond.instantiable "VerbAtDusk$Country" (9 : Nat)) ∈ lw_all := lw_g (lw_at lw_m1 52 rfl) rfl
theorem q200 : (Jvm.Cond.instanceMethod ({ cls := "VerbAtDusk$Country", name := "<init>", desc := "()V" } : Jvm.MethodName)) ∈ lw_all := lw_g (lw_at lw_m1 54 rfl) rfl
theorem q201 : (Jvm.Cond.code ({ cls := "VerbAtDusk$Country", name := "<init>", desc := "()V" } : Jvm.MethodName) prog_5_method_1_code (1 : Nat) (Option.none : Option Jvm.ClassFile.FieldType)) ∈ lw_all := lw_g (lw_at lw_m1 55 rfl) rfl
theorem q202 : (Jvm.Cond.methodLink "VerbAtDusk$Country" (3 : Nat) ({ cls := "java/lang/Object", name := "<init>", desc := "()V" } : Jvm.MethodName)) ∈ lw_all := lw_g (lw_at lw_m1 56 rfl) rfl
theorem q203 : (Jvm.Cond.classLink "VerbAtDusk$Country" (9 : Nat) "java/util/ArrayList") ∈ lw_all := lw_g (lw_at lw_m1 57 rfl) rfl
theorem q205 : (Jvm.Cond.methodLink "VerbAtDusk$Country" (11 : Nat) ({ cls := "java/util/ArrayList", name := "<init>", desc := "(I)V" } : Jvm.MethodName)) ∈ lw_all := lw_g (lw_at lw_m1 59 rfl) rfl
theorem q240 : (Jvm.Cond.fieldLink "VerbAtDusk$Country" (14 : Nat) "VerbAtDusk$Country" "sayings" "Ljava/util/List;") ∈ lw_all := lw_g (lw_at lw_m1 94 rfl) rfl
theorem q244 : (Jvm.Cond.fieldLink "VerbAtDusk$Country" (20 : Nat) "VerbAtDusk$Country" "verbs" "Ljava/util/List;") ∈ lw_all := lw_g (lw_at lw_m1 98 rfl) rfl
theorem q254 : (Jvm.Cond.lays "VerbAtDusk$Country" "VerbAtDusk$Country" "statements" "I") ∈ lw_all := lw_g (lw_at lw_m1 108 rfl) rfl
theorem q255 : (Jvm.Cond.soleField "VerbAtDusk$Country" "statements") ∈ lw_all := lw_g (lw_at lw_m1 109 rfl) rfl
theorem q256 : (Jvm.Cond.lays "VerbAtDusk$Country" "VerbAtDusk$Country" "dusk" "I") ∈ lw_all := lw_g (lw_at lw_m1 110 rfl) rfl
theorem q257 : (Jvm.Cond.soleField "VerbAtDusk$Country" "dusk") ∈ lw_all := lw_g (lw_at lw_m1 111 rfl) rfl
theorem q258 : (Jvm.Cond.lays "VerbAtDusk$Country" "VerbAtDusk$Country" "lent" "I") ∈ lw_all := lw_g (lw_at lw_m1 112 rfl) rfl
theorem q259 : (Jvm.Cond.soleField "VerbAtDusk$Country" "lent") ∈ lw_all := lw_g (lw_at lw_m1 113 rfl) rfl
theorem q260 : (Jvm.Cond.lays "VerbAtDusk$Country" "VerbAtDusk$Country" "ditch" "I") ∈ lw_all := lw_g (lw_at lw_m1 114 rfl) rfl
theorem q261 : (Jvm.Cond.soleField "VerbAtDusk$Country" "ditch") ∈ lw_all := lw_g (lw_at lw_m1 115 rfl) rfl
theorem q262 : (Jvm.Cond.laysFinal "VerbAtDusk$Country" "VerbAtDusk$Country" "sayings" "Ljava/util/List;") ∈ lw_all := lw_g (lw_at lw_m1 116 rfl) rfl
theorem q263 : (Jvm.Cond.soleField "VerbAtDusk$Country" "sayings") ∈ lw_all := lw_g (lw_at lw_m1 117 rfl) rfl
theorem q264 : (Jvm.Cond.laysFinal "VerbAtDusk$Country" "VerbAtDusk$Country" "verbs" "Ljava/util/List;") ∈ lw_all := lw_g (lw_at lw_m1 118 rfl) rfl
theorem q265 : (Jvm.Cond.soleField "VerbAtDusk$Country" "verbs") ∈ lw_all := lw_g (lw_at lw_m1 119 rfl) rfl
theorem q266 : (Jvm.Cond.lays "VerbAtDusk$Country" "VerbAtDusk$Country" "takes" "LVerbAtDusk$Test;") ∈ lw_all := lw_g (lw_at lw_m1 120 rfl) rfl
theorem q267 : (Jvm.Cond.soleField "VerbAtDusk$Country" "takes") ∈ lw_all := lw_g (lw_at lw_m1 121 rfl) rfl
theorem q268 : (Jvm.Cond.lays "VerbAtDusk$Country" "VerbAtDusk$Country" "well" "LVerbAtDusk$Value;") ∈ lw_all := lw_g (lw_at lw_m1 122 rfl) rfl
theorem q269 : (Jvm.Cond.soleField "VerbAtDusk$Country" "well") ∈ lw_all := lw_g (lw_at lw_m1 123 rfl) rfl
theorem q270 : (Jvm.Cond.lays "VerbAtDusk$Country" "VerbAtDusk$Country" "turns" "LVerbAtDusk$Value;") ∈ lw_all := lw_g (lw_at lw_m1 124 rfl) rfl
theorem q271 : (Jvm.Cond.soleField "VerbAtDusk$Country" "turns") ∈ lw_all := lw_g (lw_at lw_m1 125 rfl) rfl
theorem q272 : (Jvm.Cond.superclass "VerbAtDusk$Country" "java/lang/Object") ∈ lw_all := lw_g (lw_at lw_m1 126 rfl) rfl
theorem q851 : (Jvm.Cond.instanceMethod ({ cls := "VerbAtDusk$Country", name := "isNamed", desc := "(Ljava/lang/String;)Z" } : Jvm.MethodName)) ∈ lw_all := lw_g (lw_at lw_m3 225 rfl) rfl
theorem q852 : (Jvm.Cond.selects "VerbAtDusk$Country" ({ cls := "VerbAtDusk$Country", name := "isNamed", desc := "(Ljava/lang/String;)Z" } : Jvm.MethodName) ({ cls := "VerbAtDusk$Country", name := "isNamed", desc := "(Ljava/lang/String;)Z" } : Jvm.MethodName)) ∈ lw_all := lw_g (lw_at lw_m3 226 rfl) rfl
theorem q853 : (Jvm.Cond.code ({ cls := "VerbAtDusk$Country", name := "isNamed", desc := "(Ljava/lang/String;)Z" } : Jvm.MethodName) prog_5_method_2_code (2 : Nat) (Option.some Jvm.ClassFile.FieldType.boolean)) ∈ lw_all := lw_g (lw_at lw_m3 227 rfl) rfl
theorem q854 : (Jvm.Cond.methodLink "VerbAtDusk$Country" (23 : Nat) ({ cls := "VerbAtDusk$Named", name := "find", desc := "(Ljava/util/List;Ljava/lang/String;)I" } : Jvm.MethodName)) ∈ lw_all := lw_g (lw_at lw_m3 228 rfl) rfl
theorem q954 : (Jvm.Cond.selects "VerbAtDusk$Country" ({ cls := "java/lang/Object", name := "getClass", desc := "()Ljava/lang/Class;" } : Jvm.MethodName) ({ cls := "java/lang/Object", name := "getClass", desc := "()Ljava/lang/Class;" } : Jvm.MethodName)) ∈ lw_all := lw_g (lw_at lw_m4 88 rfl) rfl
theorem q2644 : (Jvm.Cond.castable "VerbAtDusk$Country" "java/lang/Object") ∈ lw_tbl := lw_at lw_m11 98 rfl
theorem in_X1 : ∀ w ∈ wsX10, w ∈ lw_all := lw_in wsX10 [254, 256, 258, 260, 262, 264, 266, 268, 270] (by decide +kernel) (by decide +kernel)
/-! VerbAtDusk$Reader -/
set_option maxRecDepth 100000
def RX2 : String := "VerbAtDusk$Reader"
def TX2 : u_T := fun k => match k with
  | 0 => ("VerbAtDusk$Reader", "fault", "LVerbAtDusk$Fault;", true)
  | 1 => ("VerbAtDusk$Reader", "size", "I", false)
  | 2 => ("VerbAtDusk$Reader", "at", "I", false)
  | 3 => ("VerbAtDusk$Reader", "from", "I", false)
  | 4 => ("VerbAtDusk$Reader", "open", "I", false)
  | 5 => ("VerbAtDusk$Reader", "context", "I", false)
  | 6 => ("VerbAtDusk$Reader", "to", "LVerbAtDusk$Country;", false)
  | _ => ("VerbAtDusk$Reader", "this$0", "LVerbAtDusk;", true)
def tyX2 : Nat → FieldType := fun k => match k with
  | 0 => .object "VerbAtDusk$Fault"
  | 1 => .int
  | 2 => .int
  | 3 => .int
  | 4 => .int
  | 5 => .int
  | 6 => .object "VerbAtDusk$Country"
  | _ => .object "VerbAtDusk"
abbrev wsX20 : List Cond := u_ws RX2 TX2 8
theorem nmX2 : ∀ a, a < 8 → ∀ b, b < 8 → a ≠ b → (TX2 a).2.1 ≠ (TX2 b).2.1 := by decide +kernel
theorem tyX2_ok : ∀ k, k < 8 → parseFieldDescriptor (TX2 k).2.2.1 = some (tyX2 k) := by decide +kernel
abbrev cX2_init : ByteArray := prog_16_method_1_code
def yX2_init : MethodName := ⟨RX2, "<init>", "(LVerbAtDusk;)V"⟩
def dkwX2_init_0 : List UInt8 := [42, 43, 181, 0, 3, 42, 183, 0, 9, 42, 187, 0, 15, 89, 183, 0, 17, 181, 0, 18, 177]
abbrev dktX2_init_0 : List UInt8 := dkwX2_init_0 ++ []
theorem dksX2_init_0 : cX2_init.data.toList.drop 0 = dktX2_init_0 := by decide +kernel
theorem dX2_init_0 : decode cX2_init 0 = .ok (.aload_n 0, 1) := dk_42 (dk_at dksX2_init_0 0 rfl rfl)
theorem dX2_init_1 : decode cX2_init 1 = .ok (.aload_n 1, 1) := dk_43 (dk_at dksX2_init_0 1 rfl rfl)
theorem dX2_init_2 : decode cX2_init 2 = .ok (.putfield 3, 3) := dk_181 0 3 (dk_at dksX2_init_0 2 rfl rfl)
theorem dX2_init_5 : decode cX2_init 5 = .ok (.aload_n 0, 1) := dk_42 (dk_at dksX2_init_0 5 rfl rfl)
theorem dX2_init_6 : decode cX2_init 6 = .ok (.invokespecial 9, 3) := dk_183 0 9 (dk_at dksX2_init_0 6 rfl rfl)
theorem dX2_init_9 : decode cX2_init 9 = .ok (.aload_n 0, 1) := dk_42 (dk_at dksX2_init_0 9 rfl rfl)
theorem dX2_init_10 : decode cX2_init 10 = .ok (.new 15, 3) := dk_187 0 15 (dk_at dksX2_init_0 10 rfl rfl)
theorem dX2_init_13 : decode cX2_init 13 = .ok (.dup, 1) := dk_89 (dk_at dksX2_init_0 13 rfl rfl)
theorem dX2_init_14 : decode cX2_init 14 = .ok (.invokespecial 17, 3) := dk_183 0 17 (dk_at dksX2_init_0 14 rfl rfl)
theorem dX2_init_17 : decode cX2_init 17 = .ok (.putfield 18, 3) := dk_181 0 18 (dk_at dksX2_init_0 17 rfl rfl)
theorem dX2_init_20 : decode cX2_init 20 = .ok (.return_, 1) := dk_177 (dk_at dksX2_init_0 20 rfl rfl)
abbrev cX2_all : ByteArray := prog_16_method_15_code
def yX2_all : MethodName := ⟨RX2, "all", "(I)LVerbAtDusk$Country;"⟩
def dkwX2_all_6 : List UInt8 := [42, 180, 0, 103, 176]
abbrev dktX2_all_6 : List UInt8 := dkwX2_all_6 ++ []
def dkwX2_all_5 : List UInt8 := [182, 0, 132, 154, 0, 12, 42, 44, 42, 180, 0, 61, 182, 0, 136, 42, 16, 59, 182, 0, 121, 167, 255, 178]
abbrev dktX2_all_5 : List UInt8 := dkwX2_all_5 ++ dktX2_all_6
def dkwX2_all_4 : List UInt8 := [180, 0, 103, 89, 180, 0, 125, 4, 96, 181, 0, 125, 42, 182, 0, 70, 77, 42, 44, 42, 180, 0, 61]
abbrev dktX2_all_4 : List UInt8 := dkwX2_all_4 ++ dktX2_all_5
def dkwX2_all_3 : List UInt8 := [180, 0, 103, 180, 0, 125, 16, 80, 160, 0, 7, 4, 167, 0, 4, 3, 42, 180, 0, 36, 182, 0, 128, 42]
abbrev dktX2_all_3 : List UInt8 := dkwX2_all_3 ++ dktX2_all_4
def dkwX2_all_2 : List UInt8 := [16, 59, 182, 0, 121, 42, 180, 0, 103, 4, 181, 0, 125, 42, 182, 0, 43, 2, 159, 0, 76, 42, 42]
abbrev dktX2_all_2 : List UInt8 := dkwX2_all_2 ++ dktX2_all_3
def dkwX2_all_1 : List UInt8 := [181, 0, 114, 42, 18, 117, 182, 0, 93, 42, 180, 0, 103, 42, 4, 16, 99, 182, 0, 96, 181, 0, 119, 42]
abbrev dktX2_all_1 : List UInt8 := dkwX2_all_1 ++ dktX2_all_2
def dkwX2_all_0 : List UInt8 := [42, 187, 0, 108, 89, 183, 0, 113, 181, 0, 103, 42, 27, 181, 0, 29, 42, 3, 181, 0, 36, 42, 3]
abbrev dktX2_all_0 : List UInt8 := dkwX2_all_0 ++ dktX2_all_1
theorem dksX2_all_0 : cX2_all.data.toList.drop 0 = dktX2_all_0 := by decide +kernel
theorem dksX2_all_1 : cX2_all.data.toList.drop 23 = dktX2_all_1 := dk_seg dksX2_all_0 23 rfl rfl
theorem dksX2_all_2 : cX2_all.data.toList.drop 47 = dktX2_all_2 := dk_seg dksX2_all_1 24 rfl rfl
theorem dksX2_all_3 : cX2_all.data.toList.drop 70 = dktX2_all_3 := dk_seg dksX2_all_2 23 rfl rfl
theorem dksX2_all_4 : cX2_all.data.toList.drop 94 = dktX2_all_4 := dk_seg dksX2_all_3 24 rfl rfl
theorem dksX2_all_5 : cX2_all.data.toList.drop 117 = dktX2_all_5 := dk_seg dksX2_all_4 23 rfl rfl
theorem dksX2_all_6 : cX2_all.data.toList.drop 141 = dktX2_all_6 := dk_seg dksX2_all_5 24 rfl rfl
theorem dX2_all_0 : decode cX2_all 0 = .ok (.aload_n 0, 1) := dk_42 (dk_at dksX2_all_0 0 rfl rfl)
theorem dX2_all_1 : decode cX2_all 1 = .ok (.new 108, 3) := dk_187 0 108 (dk_at dksX2_all_0 1 rfl rfl)
theorem dX2_all_4 : decode cX2_all 4 = .ok (.dup, 1) := dk_89 (dk_at dksX2_all_0 4 rfl rfl)
theorem dX2_all_5 : decode cX2_all 5 = .ok (.invokespecial 113, 3) := dk_183 0 113 (dk_at dksX2_all_0 5 rfl rfl)
theorem dX2_all_8 : decode cX2_all 8 = .ok (.putfield 103, 3) := dk_181 0 103 (dk_at dksX2_all_0 8 rfl rfl)
theorem dX2_all_11 : decode cX2_all 11 = .ok (.aload_n 0, 1) := dk_42 (dk_at dksX2_all_0 11 rfl rfl)
theorem dX2_all_12 : decode cX2_all 12 = .ok (.iload_n 1, 1) := dk_27 (dk_at dksX2_all_0 12 rfl rfl)
theorem dX2_all_13 : decode cX2_all 13 = .ok (.putfield 29, 3) := dk_181 0 29 (dk_at dksX2_all_0 13 rfl rfl)
theorem dX2_all_16 : decode cX2_all 16 = .ok (.aload_n 0, 1) := dk_42 (dk_at dksX2_all_0 16 rfl rfl)
theorem dX2_all_17 : decode cX2_all 17 = .ok (.iconst 0, 1) := dk_3 (dk_at dksX2_all_0 17 rfl rfl)
theorem dX2_all_18 : decode cX2_all 18 = .ok (.putfield 36, 3) := dk_181 0 36 (dk_at dksX2_all_0 18 rfl rfl)
theorem dX2_all_21 : decode cX2_all 21 = .ok (.aload_n 0, 1) := dk_42 (dk_at dksX2_all_0 21 rfl rfl)
theorem dX2_all_22 : decode cX2_all 22 = .ok (.iconst 0, 1) := dk_3 (dk_at dksX2_all_0 22 rfl rfl)
theorem dX2_all_23 : decode cX2_all 23 = .ok (.putfield 114, 3) := dk_181 0 114 (dk_at dksX2_all_1 0 rfl rfl)
theorem dX2_all_26 : decode cX2_all 26 = .ok (.aload_n 0, 1) := dk_42 (dk_at dksX2_all_1 3 rfl rfl)
theorem dX2_all_27 : decode cX2_all 27 = .ok (.ldc 117, 2) := dk_18 117 (dk_at dksX2_all_1 4 rfl rfl)
theorem dX2_all_29 : decode cX2_all 29 = .ok (.invokevirtual 93, 3) := dk_182 0 93 (dk_at dksX2_all_1 6 rfl rfl)
theorem dX2_all_32 : decode cX2_all 32 = .ok (.aload_n 0, 1) := dk_42 (dk_at dksX2_all_1 9 rfl rfl)
theorem dX2_all_33 : decode cX2_all 33 = .ok (.getfield 103, 3) := dk_180 0 103 (dk_at dksX2_all_1 10 rfl rfl)
theorem dX2_all_36 : decode cX2_all 36 = .ok (.aload_n 0, 1) := dk_42 (dk_at dksX2_all_1 13 rfl rfl)
theorem dX2_all_37 : decode cX2_all 37 = .ok (.iconst 1, 1) := dk_4 (dk_at dksX2_all_1 14 rfl rfl)
theorem dX2_all_38 : decode cX2_all 38 = .ok (.bipush 99, 2) := dk_16 99 (dk_at dksX2_all_1 15 rfl rfl)
theorem dX2_all_40 : decode cX2_all 40 = .ok (.invokevirtual 96, 3) := dk_182 0 96 (dk_at dksX2_all_1 17 rfl rfl)
theorem dX2_all_43 : decode cX2_all 43 = .ok (.putfield 119, 3) := dk_181 0 119 (dk_at dksX2_all_1 20 rfl rfl)
theorem dX2_all_46 : decode cX2_all 46 = .ok (.aload_n 0, 1) := dk_42 (dk_at dksX2_all_1 23 rfl rfl)
theorem dX2_all_47 : decode cX2_all 47 = .ok (.bipush 59, 2) := dk_16 59 (dk_at dksX2_all_2 0 rfl rfl)
theorem dX2_all_49 : decode cX2_all 49 = .ok (.invokevirtual 121, 3) := dk_182 0 121 (dk_at dksX2_all_2 2 rfl rfl)
theorem dX2_all_52 : decode cX2_all 52 = .ok (.aload_n 0, 1) := dk_42 (dk_at dksX2_all_2 5 rfl rfl)
theorem dX2_all_53 : decode cX2_all 53 = .ok (.getfield 103, 3) := dk_180 0 103 (dk_at dksX2_all_2 6 rfl rfl)
theorem dX2_all_56 : decode cX2_all 56 = .ok (.iconst 1, 1) := dk_4 (dk_at dksX2_all_2 9 rfl rfl)
theorem dX2_all_57 : decode cX2_all 57 = .ok (.putfield 125, 3) := dk_181 0 125 (dk_at dksX2_all_2 10 rfl rfl)
theorem dX2_all_60 : decode cX2_all 60 = .ok (.aload_n 0, 1) := dk_42 (dk_at dksX2_all_2 13 rfl rfl)
theorem dX2_all_61 : decode cX2_all 61 = .ok (.invokevirtual 43, 3) := dk_182 0 43 (dk_at dksX2_all_2 14 rfl rfl)
theorem dX2_all_64 : decode cX2_all 64 = .ok (.iconst (-1), 1) := dk_2 (dk_at dksX2_all_2 17 rfl rfl)
theorem dX2_all_65 : decode cX2_all 65 = .ok (.if_icmp .eq 76, 3) := dk_159 0 76 (dk_at dksX2_all_2 18 rfl rfl)
theorem dX2_all_68 : decode cX2_all 68 = .ok (.aload_n 0, 1) := dk_42 (dk_at dksX2_all_2 21 rfl rfl)
theorem dX2_all_69 : decode cX2_all 69 = .ok (.aload_n 0, 1) := dk_42 (dk_at dksX2_all_2 22 rfl rfl)
theorem dX2_all_70 : decode cX2_all 70 = .ok (.getfield 103, 3) := dk_180 0 103 (dk_at dksX2_all_3 0 rfl rfl)
theorem dX2_all_73 : decode cX2_all 73 = .ok (.getfield 125, 3) := dk_180 0 125 (dk_at dksX2_all_3 3 rfl rfl)
theorem dX2_all_76 : decode cX2_all 76 = .ok (.bipush 80, 2) := dk_16 80 (dk_at dksX2_all_3 6 rfl rfl)
theorem dX2_all_78 : decode cX2_all 78 = .ok (.if_icmp .ne 7, 3) := dk_160 0 7 (dk_at dksX2_all_3 8 rfl rfl)
theorem dX2_all_81 : decode cX2_all 81 = .ok (.iconst 1, 1) := dk_4 (dk_at dksX2_all_3 11 rfl rfl)
theorem dX2_all_82 : decode cX2_all 82 = .ok (.goto 4, 3) := dk_167 0 4 (dk_at dksX2_all_3 12 rfl rfl)
theorem dX2_all_85 : decode cX2_all 85 = .ok (.iconst 0, 1) := dk_3 (dk_at dksX2_all_3 15 rfl rfl)
theorem dX2_all_86 : decode cX2_all 86 = .ok (.aload_n 0, 1) := dk_42 (dk_at dksX2_all_3 16 rfl rfl)
theorem dX2_all_87 : decode cX2_all 87 = .ok (.getfield 36, 3) := dk_180 0 36 (dk_at dksX2_all_3 17 rfl rfl)
theorem dX2_all_90 : decode cX2_all 90 = .ok (.invokevirtual 128, 3) := dk_182 0 128 (dk_at dksX2_all_3 20 rfl rfl)
theorem dX2_all_93 : decode cX2_all 93 = .ok (.aload_n 0, 1) := dk_42 (dk_at dksX2_all_3 23 rfl rfl)
theorem dX2_all_94 : decode cX2_all 94 = .ok (.getfield 103, 3) := dk_180 0 103 (dk_at dksX2_all_4 0 rfl rfl)
theorem dX2_all_97 : decode cX2_all 97 = .ok (.dup, 1) := dk_89 (dk_at dksX2_all_4 3 rfl rfl)
theorem dX2_all_98 : decode cX2_all 98 = .ok (.getfield 125, 3) := dk_180 0 125 (dk_at dksX2_all_4 4 rfl rfl)
theorem dX2_all_101 : decode cX2_all 101 = .ok (.iconst 1, 1) := dk_4 (dk_at dksX2_all_4 7 rfl rfl)
theorem dX2_all_102 : decode cX2_all 102 = .ok (.iadd, 1) := dk_96 (dk_at dksX2_all_4 8 rfl rfl)
theorem dX2_all_103 : decode cX2_all 103 = .ok (.putfield 125, 3) := dk_181 0 125 (dk_at dksX2_all_4 9 rfl rfl)
theorem dX2_all_106 : decode cX2_all 106 = .ok (.aload_n 0, 1) := dk_42 (dk_at dksX2_all_4 12 rfl rfl)
theorem dX2_all_107 : decode cX2_all 107 = .ok (.invokevirtual 70, 3) := dk_182 0 70 (dk_at dksX2_all_4 13 rfl rfl)
theorem dX2_all_110 : decode cX2_all 110 = .ok (.astore_n 2, 1) := dk_77 (dk_at dksX2_all_4 16 rfl rfl)
theorem dX2_all_111 : decode cX2_all 111 = .ok (.aload_n 0, 1) := dk_42 (dk_at dksX2_all_4 17 rfl rfl)
theorem dX2_all_112 : decode cX2_all 112 = .ok (.aload_n 2, 1) := dk_44 (dk_at dksX2_all_4 18 rfl rfl)
theorem dX2_all_113 : decode cX2_all 113 = .ok (.aload_n 0, 1) := dk_42 (dk_at dksX2_all_4 19 rfl rfl)
theorem dX2_all_114 : decode cX2_all 114 = .ok (.getfield 61, 3) := dk_180 0 61 (dk_at dksX2_all_4 20 rfl rfl)
theorem dX2_all_117 : decode cX2_all 117 = .ok (.invokevirtual 132, 3) := dk_182 0 132 (dk_at dksX2_all_5 0 rfl rfl)
theorem dX2_all_120 : decode cX2_all 120 = .ok (.ifCond .ne 12, 3) := dk_154 0 12 (dk_at dksX2_all_5 3 rfl rfl)
theorem dX2_all_123 : decode cX2_all 123 = .ok (.aload_n 0, 1) := dk_42 (dk_at dksX2_all_5 6 rfl rfl)
theorem dX2_all_124 : decode cX2_all 124 = .ok (.aload_n 2, 1) := dk_44 (dk_at dksX2_all_5 7 rfl rfl)
theorem dX2_all_125 : decode cX2_all 125 = .ok (.aload_n 0, 1) := dk_42 (dk_at dksX2_all_5 8 rfl rfl)
theorem dX2_all_126 : decode cX2_all 126 = .ok (.getfield 61, 3) := dk_180 0 61 (dk_at dksX2_all_5 9 rfl rfl)
theorem dX2_all_129 : decode cX2_all 129 = .ok (.invokevirtual 136, 3) := dk_182 0 136 (dk_at dksX2_all_5 12 rfl rfl)
theorem dX2_all_132 : decode cX2_all 132 = .ok (.aload_n 0, 1) := dk_42 (dk_at dksX2_all_5 15 rfl rfl)
theorem dX2_all_133 : decode cX2_all 133 = .ok (.bipush 59, 2) := dk_16 59 (dk_at dksX2_all_5 16 rfl rfl)
theorem dX2_all_135 : decode cX2_all 135 = .ok (.invokevirtual 121, 3) := dk_182 0 121 (dk_at dksX2_all_5 18 rfl rfl)
theorem dX2_all_138 : decode cX2_all 138 = .ok (.goto (-78), 3) := dk_167 255 178 (dk_at dksX2_all_5 21 rfl rfl)
theorem dX2_all_141 : decode cX2_all 141 = .ok (.aload_n 0, 1) := dk_42 (dk_at dksX2_all_6 0 rfl rfl)
theorem dX2_all_142 : decode cX2_all 142 = .ok (.getfield 103, 3) := dk_180 0 103 (dk_at dksX2_all_6 1 rfl rfl)
theorem dX2_all_145 : decode cX2_all 145 = .ok (.areturn, 1) := dk_176 (dk_at dksX2_all_6 4 rfl rfl)
abbrev cX2_word : ByteArray := prog_16_method_8_code
def yX2_word : MethodName := ⟨RX2, "word", "(Ljava/lang/String;)V"⟩
def dkwX2_word_0 : List UInt8 := [42, 182, 0, 70, 43, 182, 0, 74, 154, 0, 13, 42, 4, 42, 180, 0, 61, 182, 0, 47, 191, 177]
abbrev dktX2_word_0 : List UInt8 := dkwX2_word_0 ++ []
theorem dksX2_word_0 : cX2_word.data.toList.drop 0 = dktX2_word_0 := by decide +kernel
theorem dX2_word_0 : decode cX2_word 0 = .ok (.aload_n 0, 1) := dk_42 (dk_at dksX2_word_0 0 rfl rfl)
theorem dX2_word_1 : decode cX2_word 1 = .ok (.invokevirtual 70, 3) := dk_182 0 70 (dk_at dksX2_word_0 1 rfl rfl)
theorem dX2_word_4 : decode cX2_word 4 = .ok (.aload_n 1, 1) := dk_43 (dk_at dksX2_word_0 4 rfl rfl)
theorem dX2_word_5 : decode cX2_word 5 = .ok (.invokevirtual 74, 3) := dk_182 0 74 (dk_at dksX2_word_0 5 rfl rfl)
theorem dX2_word_8 : decode cX2_word 8 = .ok (.ifCond .ne 13, 3) := dk_154 0 13 (dk_at dksX2_word_0 8 rfl rfl)
theorem dX2_word_11 : decode cX2_word 11 = .ok (.aload_n 0, 1) := dk_42 (dk_at dksX2_word_0 11 rfl rfl)
theorem dX2_word_12 : decode cX2_word 12 = .ok (.iconst 1, 1) := dk_4 (dk_at dksX2_word_0 12 rfl rfl)
theorem dX2_word_13 : decode cX2_word 13 = .ok (.aload_n 0, 1) := dk_42 (dk_at dksX2_word_0 13 rfl rfl)
theorem dX2_word_14 : decode cX2_word 14 = .ok (.getfield 61, 3) := dk_180 0 61 (dk_at dksX2_word_0 14 rfl rfl)
theorem dX2_word_17 : decode cX2_word 17 = .ok (.invokevirtual 47, 3) := dk_182 0 47 (dk_at dksX2_word_0 17 rfl rfl)
theorem dX2_word_20 : decode cX2_word 20 = .ok (.athrow, 1) := dk_191 (dk_at dksX2_word_0 20 rfl rfl)
theorem dX2_word_21 : decode cX2_word 21 = .ok (.return_, 1) := dk_177 (dk_at dksX2_word_0 21 rfl rfl)
abbrev cX2_word_2 : ByteArray := prog_16_method_7_code
def yX2_word_2 : MethodName := ⟨RX2, "word", "()Ljava/lang/String;"⟩
def dkwX2_word_2_4 : List UInt8 := [180, 0, 32, 28, 51, 146, 85, 132, 2, 1, 167, 255, 227, 43, 184, 0, 64, 176]
abbrev dktX2_word_2_4 : List UInt8 := dkwX2_word_2_4 ++ []
def dkwX2_word_2_3 : List UInt8 := [180, 0, 61, 61, 28, 42, 180, 0, 36, 162, 0, 27, 43, 28, 42, 180, 0, 61, 100, 42, 180, 0, 3]
abbrev dktX2_word_2_3 : List UInt8 := dkwX2_word_2_3 ++ dktX2_word_2_4
def dkwX2_word_2_2 : List UInt8 := [180, 0, 36, 4, 96, 181, 0, 36, 167, 255, 232, 42, 180, 0, 36, 42, 180, 0, 61, 100, 188, 5, 76, 42]
abbrev dktX2_word_2_2 : List UInt8 := dkwX2_word_2_2 ++ dktX2_word_2_3
def dkwX2_word_2_1 : List UInt8 := [42, 42, 180, 0, 36, 181, 0, 61, 42, 42, 180, 0, 36, 182, 0, 39, 184, 0, 51, 153, 0, 16, 42, 89]
abbrev dktX2_word_2_1 : List UInt8 := dkwX2_word_2_1 ++ dktX2_word_2_2
def dkwX2_word_2_0 : List UInt8 := [42, 182, 0, 43, 184, 0, 51, 154, 0, 13, 42, 4, 42, 180, 0, 36, 182, 0, 47, 191, 42, 182, 0, 58]
abbrev dktX2_word_2_0 : List UInt8 := dkwX2_word_2_0 ++ dktX2_word_2_1
theorem dksX2_word_2_0 : cX2_word_2.data.toList.drop 0 = dktX2_word_2_0 := by decide +kernel
theorem dksX2_word_2_1 : cX2_word_2.data.toList.drop 24 = dktX2_word_2_1 := dk_seg dksX2_word_2_0 24 rfl rfl
theorem dksX2_word_2_2 : cX2_word_2.data.toList.drop 48 = dktX2_word_2_2 := dk_seg dksX2_word_2_1 24 rfl rfl
theorem dksX2_word_2_3 : cX2_word_2.data.toList.drop 72 = dktX2_word_2_3 := dk_seg dksX2_word_2_2 24 rfl rfl
theorem dksX2_word_2_4 : cX2_word_2.data.toList.drop 95 = dktX2_word_2_4 := dk_seg dksX2_word_2_3 23 rfl rfl
theorem dX2_word_2_0 : decode cX2_word_2 0 = .ok (.aload_n 0, 1) := dk_42 (dk_at dksX2_word_2_0 0 rfl rfl)
theorem dX2_word_2_1 : decode cX2_word_2 1 = .ok (.invokevirtual 43, 3) := dk_182 0 43 (dk_at dksX2_word_2_0 1 rfl rfl)
theorem dX2_word_2_4 : decode cX2_word_2 4 = .ok (.invokestatic 51, 3) := dk_184 0 51 (dk_at dksX2_word_2_0 4 rfl rfl)
theorem dX2_word_2_7 : decode cX2_word_2 7 = .ok (.ifCond .ne 13, 3) := dk_154 0 13 (dk_at dksX2_word_2_0 7 rfl rfl)
theorem dX2_word_2_10 : decode cX2_word_2 10 = .ok (.aload_n 0, 1) := dk_42 (dk_at dksX2_word_2_0 10 rfl rfl)
theorem dX2_word_2_11 : decode cX2_word_2 11 = .ok (.iconst 1, 1) := dk_4 (dk_at dksX2_word_2_0 11 rfl rfl)
theorem dX2_word_2_12 : decode cX2_word_2 12 = .ok (.aload_n 0, 1) := dk_42 (dk_at dksX2_word_2_0 12 rfl rfl)
theorem dX2_word_2_13 : decode cX2_word_2 13 = .ok (.getfield 36, 3) := dk_180 0 36 (dk_at dksX2_word_2_0 13 rfl rfl)
theorem dX2_word_2_16 : decode cX2_word_2 16 = .ok (.invokevirtual 47, 3) := dk_182 0 47 (dk_at dksX2_word_2_0 16 rfl rfl)
theorem dX2_word_2_19 : decode cX2_word_2 19 = .ok (.athrow, 1) := dk_191 (dk_at dksX2_word_2_0 19 rfl rfl)
theorem dX2_word_2_20 : decode cX2_word_2 20 = .ok (.aload_n 0, 1) := dk_42 (dk_at dksX2_word_2_0 20 rfl rfl)
theorem dX2_word_2_21 : decode cX2_word_2 21 = .ok (.invokevirtual 58, 3) := dk_182 0 58 (dk_at dksX2_word_2_0 21 rfl rfl)
theorem dX2_word_2_24 : decode cX2_word_2 24 = .ok (.aload_n 0, 1) := dk_42 (dk_at dksX2_word_2_1 0 rfl rfl)
theorem dX2_word_2_25 : decode cX2_word_2 25 = .ok (.aload_n 0, 1) := dk_42 (dk_at dksX2_word_2_1 1 rfl rfl)
theorem dX2_word_2_26 : decode cX2_word_2 26 = .ok (.getfield 36, 3) := dk_180 0 36 (dk_at dksX2_word_2_1 2 rfl rfl)
theorem dX2_word_2_29 : decode cX2_word_2 29 = .ok (.putfield 61, 3) := dk_181 0 61 (dk_at dksX2_word_2_1 5 rfl rfl)
theorem dX2_word_2_32 : decode cX2_word_2 32 = .ok (.aload_n 0, 1) := dk_42 (dk_at dksX2_word_2_1 8 rfl rfl)
theorem dX2_word_2_33 : decode cX2_word_2 33 = .ok (.aload_n 0, 1) := dk_42 (dk_at dksX2_word_2_1 9 rfl rfl)
theorem dX2_word_2_34 : decode cX2_word_2 34 = .ok (.getfield 36, 3) := dk_180 0 36 (dk_at dksX2_word_2_1 10 rfl rfl)
theorem dX2_word_2_37 : decode cX2_word_2 37 = .ok (.invokevirtual 39, 3) := dk_182 0 39 (dk_at dksX2_word_2_1 13 rfl rfl)
theorem dX2_word_2_40 : decode cX2_word_2 40 = .ok (.invokestatic 51, 3) := dk_184 0 51 (dk_at dksX2_word_2_1 16 rfl rfl)
theorem dX2_word_2_43 : decode cX2_word_2 43 = .ok (.ifCond .eq 16, 3) := dk_153 0 16 (dk_at dksX2_word_2_1 19 rfl rfl)
theorem dX2_word_2_46 : decode cX2_word_2 46 = .ok (.aload_n 0, 1) := dk_42 (dk_at dksX2_word_2_1 22 rfl rfl)
theorem dX2_word_2_47 : decode cX2_word_2 47 = .ok (.dup, 1) := dk_89 (dk_at dksX2_word_2_1 23 rfl rfl)
theorem dX2_word_2_48 : decode cX2_word_2 48 = .ok (.getfield 36, 3) := dk_180 0 36 (dk_at dksX2_word_2_2 0 rfl rfl)
theorem dX2_word_2_51 : decode cX2_word_2 51 = .ok (.iconst 1, 1) := dk_4 (dk_at dksX2_word_2_2 3 rfl rfl)
theorem dX2_word_2_52 : decode cX2_word_2 52 = .ok (.iadd, 1) := dk_96 (dk_at dksX2_word_2_2 4 rfl rfl)
theorem dX2_word_2_53 : decode cX2_word_2 53 = .ok (.putfield 36, 3) := dk_181 0 36 (dk_at dksX2_word_2_2 5 rfl rfl)
theorem dX2_word_2_56 : decode cX2_word_2 56 = .ok (.goto (-24), 3) := dk_167 255 232 (dk_at dksX2_word_2_2 8 rfl rfl)
theorem dX2_word_2_59 : decode cX2_word_2 59 = .ok (.aload_n 0, 1) := dk_42 (dk_at dksX2_word_2_2 11 rfl rfl)
theorem dX2_word_2_60 : decode cX2_word_2 60 = .ok (.getfield 36, 3) := dk_180 0 36 (dk_at dksX2_word_2_2 12 rfl rfl)
theorem dX2_word_2_63 : decode cX2_word_2 63 = .ok (.aload_n 0, 1) := dk_42 (dk_at dksX2_word_2_2 15 rfl rfl)
theorem dX2_word_2_64 : decode cX2_word_2 64 = .ok (.getfield 61, 3) := dk_180 0 61 (dk_at dksX2_word_2_2 16 rfl rfl)
theorem dX2_word_2_67 : decode cX2_word_2 67 = .ok (.isub, 1) := dk_100 (dk_at dksX2_word_2_2 19 rfl rfl)
theorem dX2_word_2_68 : decode cX2_word_2 68 = .ok (.newarray .char, 2) := dk_188_5 (dk_at dksX2_word_2_2 20 rfl rfl)
theorem dX2_word_2_70 : decode cX2_word_2 70 = .ok (.astore_n 1, 1) := dk_76 (dk_at dksX2_word_2_2 22 rfl rfl)
theorem dX2_word_2_71 : decode cX2_word_2 71 = .ok (.aload_n 0, 1) := dk_42 (dk_at dksX2_word_2_2 23 rfl rfl)
theorem dX2_word_2_72 : decode cX2_word_2 72 = .ok (.getfield 61, 3) := dk_180 0 61 (dk_at dksX2_word_2_3 0 rfl rfl)
theorem dX2_word_2_75 : decode cX2_word_2 75 = .ok (.istore_n 2, 1) := dk_61 (dk_at dksX2_word_2_3 3 rfl rfl)
theorem dX2_word_2_76 : decode cX2_word_2 76 = .ok (.iload_n 2, 1) := dk_28 (dk_at dksX2_word_2_3 4 rfl rfl)
theorem dX2_word_2_77 : decode cX2_word_2 77 = .ok (.aload_n 0, 1) := dk_42 (dk_at dksX2_word_2_3 5 rfl rfl)
theorem dX2_word_2_78 : decode cX2_word_2 78 = .ok (.getfield 36, 3) := dk_180 0 36 (dk_at dksX2_word_2_3 6 rfl rfl)
theorem dX2_word_2_81 : decode cX2_word_2 81 = .ok (.if_icmp .ge 27, 3) := dk_162 0 27 (dk_at dksX2_word_2_3 9 rfl rfl)
theorem dX2_word_2_84 : decode cX2_word_2 84 = .ok (.aload_n 1, 1) := dk_43 (dk_at dksX2_word_2_3 12 rfl rfl)
theorem dX2_word_2_85 : decode cX2_word_2 85 = .ok (.iload_n 2, 1) := dk_28 (dk_at dksX2_word_2_3 13 rfl rfl)
theorem dX2_word_2_86 : decode cX2_word_2 86 = .ok (.aload_n 0, 1) := dk_42 (dk_at dksX2_word_2_3 14 rfl rfl)
theorem dX2_word_2_87 : decode cX2_word_2 87 = .ok (.getfield 61, 3) := dk_180 0 61 (dk_at dksX2_word_2_3 15 rfl rfl)
theorem dX2_word_2_90 : decode cX2_word_2 90 = .ok (.isub, 1) := dk_100 (dk_at dksX2_word_2_3 18 rfl rfl)
theorem dX2_word_2_91 : decode cX2_word_2 91 = .ok (.aload_n 0, 1) := dk_42 (dk_at dksX2_word_2_3 19 rfl rfl)
theorem dX2_word_2_92 : decode cX2_word_2 92 = .ok (.getfield 3, 3) := dk_180 0 3 (dk_at dksX2_word_2_3 20 rfl rfl)
theorem dX2_word_2_95 : decode cX2_word_2 95 = .ok (.getfield 32, 3) := dk_180 0 32 (dk_at dksX2_word_2_4 0 rfl rfl)
theorem dX2_word_2_98 : decode cX2_word_2 98 = .ok (.iload_n 2, 1) := dk_28 (dk_at dksX2_word_2_4 3 rfl rfl)
theorem dX2_word_2_99 : decode cX2_word_2 99 = .ok (.baload, 1) := dk_51 (dk_at dksX2_word_2_4 4 rfl rfl)
theorem dX2_word_2_100 : decode cX2_word_2 100 = .ok (.i2c, 1) := dk_146 (dk_at dksX2_word_2_4 5 rfl rfl)
theorem dX2_word_2_101 : decode cX2_word_2 101 = .ok (.castore, 1) := dk_85 (dk_at dksX2_word_2_4 6 rfl rfl)
theorem dX2_word_2_102 : decode cX2_word_2 102 = .ok (.iinc 2 1, 3) := dk_132 2 1 (dk_at dksX2_word_2_4 7 rfl rfl)
theorem dX2_word_2_105 : decode cX2_word_2 105 = .ok (.goto (-29), 3) := dk_167 255 227 (dk_at dksX2_word_2_4 10 rfl rfl)
theorem dX2_word_2_108 : decode cX2_word_2 108 = .ok (.aload_n 1, 1) := dk_43 (dk_at dksX2_word_2_4 13 rfl rfl)
theorem dX2_word_2_109 : decode cX2_word_2 109 = .ok (.invokestatic 64, 3) := dk_184 0 64 (dk_at dksX2_word_2_4 14 rfl rfl)
theorem dX2_word_2_112 : decode cX2_word_2 112 = .ok (.areturn, 1) := dk_176 (dk_at dksX2_word_2_4 17 rfl rfl)
abbrev cX2_here : ByteArray := prog_16_method_4_code
def yX2_here : MethodName := ⟨RX2, "here", "()I"⟩
def dkwX2_here_2 : List UInt8 := [172]
abbrev dktX2_here_2 : List UInt8 := dkwX2_here_2 ++ []
def dkwX2_here_1 : List UInt8 := [160, 0, 16, 42, 89, 180, 0, 36, 4, 96, 181, 0, 36, 167, 255, 220, 42, 42, 180, 0, 36, 182, 0, 39]
abbrev dktX2_here_1 : List UInt8 := dkwX2_here_1 ++ dktX2_here_2
def dkwX2_here_0 : List UInt8 := [42, 42, 180, 0, 36, 182, 0, 39, 16, 32, 159, 0, 16, 42, 42, 180, 0, 36, 182, 0, 39, 16, 10]
abbrev dktX2_here_0 : List UInt8 := dkwX2_here_0 ++ dktX2_here_1
theorem dksX2_here_0 : cX2_here.data.toList.drop 0 = dktX2_here_0 := by decide +kernel
theorem dksX2_here_1 : cX2_here.data.toList.drop 23 = dktX2_here_1 := dk_seg dksX2_here_0 23 rfl rfl
theorem dksX2_here_2 : cX2_here.data.toList.drop 47 = dktX2_here_2 := dk_seg dksX2_here_1 24 rfl rfl
theorem dX2_here_0 : decode cX2_here 0 = .ok (.aload_n 0, 1) := dk_42 (dk_at dksX2_here_0 0 rfl rfl)
theorem dX2_here_1 : decode cX2_here 1 = .ok (.aload_n 0, 1) := dk_42 (dk_at dksX2_here_0 1 rfl rfl)
theorem dX2_here_2 : decode cX2_here 2 = .ok (.getfield 36, 3) := dk_180 0 36 (dk_at dksX2_here_0 2 rfl rfl)
theorem dX2_here_5 : decode cX2_here 5 = .ok (.invokevirtual 39, 3) := dk_182 0 39 (dk_at dksX2_here_0 5 rfl rfl)
theorem dX2_here_8 : decode cX2_here 8 = .ok (.bipush 32, 2) := dk_16 32 (dk_at dksX2_here_0 8 rfl rfl)
theorem dX2_here_10 : decode cX2_here 10 = .ok (.if_icmp .eq 16, 3) := dk_159 0 16 (dk_at dksX2_here_0 10 rfl rfl)
theorem dX2_here_13 : decode cX2_here 13 = .ok (.aload_n 0, 1) := dk_42 (dk_at dksX2_here_0 13 rfl rfl)
theorem dX2_here_14 : decode cX2_here 14 = .ok (.aload_n 0, 1) := dk_42 (dk_at dksX2_here_0 14 rfl rfl)
theorem dX2_here_15 : decode cX2_here 15 = .ok (.getfield 36, 3) := dk_180 0 36 (dk_at dksX2_here_0 15 rfl rfl)
theorem dX2_here_18 : decode cX2_here 18 = .ok (.invokevirtual 39, 3) := dk_182 0 39 (dk_at dksX2_here_0 18 rfl rfl)
theorem dX2_here_21 : decode cX2_here 21 = .ok (.bipush 10, 2) := dk_16 10 (dk_at dksX2_here_0 21 rfl rfl)
theorem dX2_here_23 : decode cX2_here 23 = .ok (.if_icmp .ne 16, 3) := dk_160 0 16 (dk_at dksX2_here_1 0 rfl rfl)
theorem dX2_here_26 : decode cX2_here 26 = .ok (.aload_n 0, 1) := dk_42 (dk_at dksX2_here_1 3 rfl rfl)
theorem dX2_here_27 : decode cX2_here 27 = .ok (.dup, 1) := dk_89 (dk_at dksX2_here_1 4 rfl rfl)
theorem dX2_here_28 : decode cX2_here 28 = .ok (.getfield 36, 3) := dk_180 0 36 (dk_at dksX2_here_1 5 rfl rfl)
theorem dX2_here_31 : decode cX2_here 31 = .ok (.iconst 1, 1) := dk_4 (dk_at dksX2_here_1 8 rfl rfl)
theorem dX2_here_32 : decode cX2_here 32 = .ok (.iadd, 1) := dk_96 (dk_at dksX2_here_1 9 rfl rfl)
theorem dX2_here_33 : decode cX2_here 33 = .ok (.putfield 36, 3) := dk_181 0 36 (dk_at dksX2_here_1 10 rfl rfl)
theorem dX2_here_36 : decode cX2_here 36 = .ok (.goto (-36), 3) := dk_167 255 220 (dk_at dksX2_here_1 13 rfl rfl)
theorem dX2_here_39 : decode cX2_here 39 = .ok (.aload_n 0, 1) := dk_42 (dk_at dksX2_here_1 16 rfl rfl)
theorem dX2_here_40 : decode cX2_here 40 = .ok (.aload_n 0, 1) := dk_42 (dk_at dksX2_here_1 17 rfl rfl)
theorem dX2_here_41 : decode cX2_here 41 = .ok (.getfield 36, 3) := dk_180 0 36 (dk_at dksX2_here_1 18 rfl rfl)
theorem dX2_here_44 : decode cX2_here 44 = .ok (.invokevirtual 39, 3) := dk_182 0 39 (dk_at dksX2_here_1 21 rfl rfl)
theorem dX2_here_47 : decode cX2_here 47 = .ok (.ireturn, 1) := dk_172 (dk_at dksX2_here_2 0 rfl rfl)
abbrev cX2_byteAt : ByteArray := prog_16_method_3_code
def yX2_byteAt : MethodName := ⟨RX2, "byteAt", "(I)I"⟩
def dkwX2_byteAt_1 : List UInt8 := [126, 167, 0, 4, 2, 172]
abbrev dktX2_byteAt_1 : List UInt8 := dkwX2_byteAt_1 ++ []
def dkwX2_byteAt_0 : List UInt8 := [27, 155, 0, 27, 27, 42, 180, 0, 29, 162, 0, 19, 42, 180, 0, 3, 180, 0, 32, 27, 51, 17, 0, 255]
abbrev dktX2_byteAt_0 : List UInt8 := dkwX2_byteAt_0 ++ dktX2_byteAt_1
theorem dksX2_byteAt_0 : cX2_byteAt.data.toList.drop 0 = dktX2_byteAt_0 := by decide +kernel
theorem dksX2_byteAt_1 : cX2_byteAt.data.toList.drop 24 = dktX2_byteAt_1 := dk_seg dksX2_byteAt_0 24 rfl rfl
theorem dX2_byteAt_0 : decode cX2_byteAt 0 = .ok (.iload_n 1, 1) := dk_27 (dk_at dksX2_byteAt_0 0 rfl rfl)
theorem dX2_byteAt_1 : decode cX2_byteAt 1 = .ok (.ifCond .lt 27, 3) := dk_155 0 27 (dk_at dksX2_byteAt_0 1 rfl rfl)
theorem dX2_byteAt_4 : decode cX2_byteAt 4 = .ok (.iload_n 1, 1) := dk_27 (dk_at dksX2_byteAt_0 4 rfl rfl)
theorem dX2_byteAt_5 : decode cX2_byteAt 5 = .ok (.aload_n 0, 1) := dk_42 (dk_at dksX2_byteAt_0 5 rfl rfl)
theorem dX2_byteAt_6 : decode cX2_byteAt 6 = .ok (.getfield 29, 3) := dk_180 0 29 (dk_at dksX2_byteAt_0 6 rfl rfl)
theorem dX2_byteAt_9 : decode cX2_byteAt 9 = .ok (.if_icmp .ge 19, 3) := dk_162 0 19 (dk_at dksX2_byteAt_0 9 rfl rfl)
theorem dX2_byteAt_12 : decode cX2_byteAt 12 = .ok (.aload_n 0, 1) := dk_42 (dk_at dksX2_byteAt_0 12 rfl rfl)
theorem dX2_byteAt_13 : decode cX2_byteAt 13 = .ok (.getfield 3, 3) := dk_180 0 3 (dk_at dksX2_byteAt_0 13 rfl rfl)
theorem dX2_byteAt_16 : decode cX2_byteAt 16 = .ok (.getfield 32, 3) := dk_180 0 32 (dk_at dksX2_byteAt_0 16 rfl rfl)
theorem dX2_byteAt_19 : decode cX2_byteAt 19 = .ok (.iload_n 1, 1) := dk_27 (dk_at dksX2_byteAt_0 19 rfl rfl)
theorem dX2_byteAt_20 : decode cX2_byteAt 20 = .ok (.baload, 1) := dk_51 (dk_at dksX2_byteAt_0 20 rfl rfl)
theorem dX2_byteAt_21 : decode cX2_byteAt 21 = .ok (.sipush 255, 3) := dk_17 0 255 (dk_at dksX2_byteAt_0 21 rfl rfl)
theorem dX2_byteAt_24 : decode cX2_byteAt 24 = .ok (.iand, 1) := dk_126 (dk_at dksX2_byteAt_1 0 rfl rfl)
theorem dX2_byteAt_25 : decode cX2_byteAt 25 = .ok (.goto 4, 3) := dk_167 0 4 (dk_at dksX2_byteAt_1 1 rfl rfl)
theorem dX2_byteAt_28 : decode cX2_byteAt 28 = .ok (.iconst (-1), 1) := dk_2 (dk_at dksX2_byteAt_1 4 rfl rfl)
theorem dX2_byteAt_29 : decode cX2_byteAt 29 = .ok (.ireturn, 1) := dk_172 (dk_at dksX2_byteAt_1 5 rfl rfl)
abbrev cX2_wrong : ByteArray := prog_16_method_2_code
def yX2_wrong : MethodName := ⟨RX2, "wrong", "(II)LVerbAtDusk$Fault;"⟩
def dkwX2_wrong_0 : List UInt8 := [42, 180, 0, 18, 27, 181, 0, 22, 42, 180, 0, 18, 28, 181, 0, 26, 42, 180, 0, 18, 176]
abbrev dktX2_wrong_0 : List UInt8 := dkwX2_wrong_0 ++ []
theorem dksX2_wrong_0 : cX2_wrong.data.toList.drop 0 = dktX2_wrong_0 := by decide +kernel
theorem dX2_wrong_0 : decode cX2_wrong 0 = .ok (.aload_n 0, 1) := dk_42 (dk_at dksX2_wrong_0 0 rfl rfl)
theorem dX2_wrong_1 : decode cX2_wrong 1 = .ok (.getfield 18, 3) := dk_180 0 18 (dk_at dksX2_wrong_0 1 rfl rfl)
theorem dX2_wrong_4 : decode cX2_wrong 4 = .ok (.iload_n 1, 1) := dk_27 (dk_at dksX2_wrong_0 4 rfl rfl)
theorem dX2_wrong_5 : decode cX2_wrong 5 = .ok (.putfield 22, 3) := dk_181 0 22 (dk_at dksX2_wrong_0 5 rfl rfl)
theorem dX2_wrong_8 : decode cX2_wrong 8 = .ok (.aload_n 0, 1) := dk_42 (dk_at dksX2_wrong_0 8 rfl rfl)
theorem dX2_wrong_9 : decode cX2_wrong 9 = .ok (.getfield 18, 3) := dk_180 0 18 (dk_at dksX2_wrong_0 9 rfl rfl)
theorem dX2_wrong_12 : decode cX2_wrong 12 = .ok (.iload_n 2, 1) := dk_28 (dk_at dksX2_wrong_0 12 rfl rfl)
theorem dX2_wrong_13 : decode cX2_wrong 13 = .ok (.putfield 26, 3) := dk_181 0 26 (dk_at dksX2_wrong_0 13 rfl rfl)
theorem dX2_wrong_16 : decode cX2_wrong 16 = .ok (.aload_n 0, 1) := dk_42 (dk_at dksX2_wrong_0 16 rfl rfl)
theorem dX2_wrong_17 : decode cX2_wrong 17 = .ok (.getfield 18, 3) := dk_180 0 18 (dk_at dksX2_wrong_0 17 rfl rfl)
theorem dX2_wrong_20 : decode cX2_wrong 20 = .ok (.areturn, 1) := dk_176 (dk_at dksX2_wrong_0 20 rfl rfl)
abbrev cX2_parted : ByteArray := prog_16_method_6_code
def yX2_parted : MethodName := ⟨RX2, "parted", "()V"⟩
def dkwX2_parted_1 : List UInt8 := [182, 0, 39, 184, 0, 55, 153, 0, 13, 42, 4, 42, 180, 0, 36, 182, 0, 47, 191, 177]
abbrev dktX2_parted_1 : List UInt8 := dkwX2_parted_1 ++ []
def dkwX2_parted_0 : List UInt8 := [42, 42, 180, 0, 36, 4, 100, 182, 0, 39, 184, 0, 51, 154, 0, 19, 42, 42, 180, 0, 36, 4, 100]
abbrev dktX2_parted_0 : List UInt8 := dkwX2_parted_0 ++ dktX2_parted_1
theorem dksX2_parted_0 : cX2_parted.data.toList.drop 0 = dktX2_parted_0 := by decide +kernel
theorem dksX2_parted_1 : cX2_parted.data.toList.drop 23 = dktX2_parted_1 := dk_seg dksX2_parted_0 23 rfl rfl
theorem dX2_parted_0 : decode cX2_parted 0 = .ok (.aload_n 0, 1) := dk_42 (dk_at dksX2_parted_0 0 rfl rfl)
theorem dX2_parted_1 : decode cX2_parted 1 = .ok (.aload_n 0, 1) := dk_42 (dk_at dksX2_parted_0 1 rfl rfl)
theorem dX2_parted_2 : decode cX2_parted 2 = .ok (.getfield 36, 3) := dk_180 0 36 (dk_at dksX2_parted_0 2 rfl rfl)
theorem dX2_parted_5 : decode cX2_parted 5 = .ok (.iconst 1, 1) := dk_4 (dk_at dksX2_parted_0 5 rfl rfl)
theorem dX2_parted_6 : decode cX2_parted 6 = .ok (.isub, 1) := dk_100 (dk_at dksX2_parted_0 6 rfl rfl)
theorem dX2_parted_7 : decode cX2_parted 7 = .ok (.invokevirtual 39, 3) := dk_182 0 39 (dk_at dksX2_parted_0 7 rfl rfl)
theorem dX2_parted_10 : decode cX2_parted 10 = .ok (.invokestatic 51, 3) := dk_184 0 51 (dk_at dksX2_parted_0 10 rfl rfl)
theorem dX2_parted_13 : decode cX2_parted 13 = .ok (.ifCond .ne 19, 3) := dk_154 0 19 (dk_at dksX2_parted_0 13 rfl rfl)
theorem dX2_parted_16 : decode cX2_parted 16 = .ok (.aload_n 0, 1) := dk_42 (dk_at dksX2_parted_0 16 rfl rfl)
theorem dX2_parted_17 : decode cX2_parted 17 = .ok (.aload_n 0, 1) := dk_42 (dk_at dksX2_parted_0 17 rfl rfl)
theorem dX2_parted_18 : decode cX2_parted 18 = .ok (.getfield 36, 3) := dk_180 0 36 (dk_at dksX2_parted_0 18 rfl rfl)
theorem dX2_parted_21 : decode cX2_parted 21 = .ok (.iconst 1, 1) := dk_4 (dk_at dksX2_parted_0 21 rfl rfl)
theorem dX2_parted_22 : decode cX2_parted 22 = .ok (.isub, 1) := dk_100 (dk_at dksX2_parted_0 22 rfl rfl)
theorem dX2_parted_23 : decode cX2_parted 23 = .ok (.invokevirtual 39, 3) := dk_182 0 39 (dk_at dksX2_parted_1 0 rfl rfl)
theorem dX2_parted_26 : decode cX2_parted 26 = .ok (.invokestatic 55, 3) := dk_184 0 55 (dk_at dksX2_parted_1 3 rfl rfl)
theorem dX2_parted_29 : decode cX2_parted 29 = .ok (.ifCond .eq 13, 3) := dk_153 0 13 (dk_at dksX2_parted_1 6 rfl rfl)
theorem dX2_parted_32 : decode cX2_parted 32 = .ok (.aload_n 0, 1) := dk_42 (dk_at dksX2_parted_1 9 rfl rfl)
theorem dX2_parted_33 : decode cX2_parted 33 = .ok (.iconst 1, 1) := dk_4 (dk_at dksX2_parted_1 10 rfl rfl)
theorem dX2_parted_34 : decode cX2_parted 34 = .ok (.aload_n 0, 1) := dk_42 (dk_at dksX2_parted_1 11 rfl rfl)
theorem dX2_parted_35 : decode cX2_parted 35 = .ok (.getfield 36, 3) := dk_180 0 36 (dk_at dksX2_parted_1 12 rfl rfl)
theorem dX2_parted_38 : decode cX2_parted 38 = .ok (.invokevirtual 47, 3) := dk_182 0 47 (dk_at dksX2_parted_1 15 rfl rfl)
theorem dX2_parted_41 : decode cX2_parted 41 = .ok (.athrow, 1) := dk_191 (dk_at dksX2_parted_1 18 rfl rfl)
theorem dX2_parted_42 : decode cX2_parted 42 = .ok (.return_, 1) := dk_177 (dk_at dksX2_parted_1 19 rfl rfl)
abbrev cX2_number : ByteArray := prog_16_method_11_code
def yX2_number : MethodName := ⟨RX2, "number", "(II)I"⟩
def dkwX2_number_5 : List UInt8 := [191, 29, 172]
abbrev dktX2_number_5 : List UInt8 := dkwX2_number_5 ++ []
def dkwX2_number_4 : List UInt8 := [181, 0, 36, 167, 255, 192, 29, 27, 28, 184, 0, 89, 154, 0, 13, 42, 5, 42, 180, 0, 61, 182, 0, 47]
abbrev dktX2_number_4 : List UInt8 := dkwX2_number_4 ++ dktX2_number_5
def dkwX2_number_3 : List UInt8 := [16, 10, 29, 104, 42, 42, 180, 0, 36, 182, 0, 39, 96, 16, 48, 100, 62, 42, 89, 180, 0, 36, 4, 96]
abbrev dktX2_number_3 : List UInt8 := dkwX2_number_3 ++ dktX2_number_4
def dkwX2_number_2 : List UInt8 := [42, 180, 0, 36, 42, 180, 0, 61, 100, 7, 160, 0, 13, 42, 4, 42, 180, 0, 36, 182, 0, 47, 191]
abbrev dktX2_number_2 : List UInt8 := dkwX2_number_2 ++ dktX2_number_3
def dkwX2_number_1 : List UInt8 := [42, 42, 180, 0, 36, 181, 0, 61, 3, 62, 42, 42, 180, 0, 36, 182, 0, 39, 184, 0, 55, 153, 0, 56]
abbrev dktX2_number_1 : List UInt8 := dkwX2_number_1 ++ dktX2_number_2
def dkwX2_number_0 : List UInt8 := [42, 182, 0, 43, 184, 0, 55, 154, 0, 13, 42, 4, 42, 180, 0, 36, 182, 0, 47, 191, 42, 182, 0, 58]
abbrev dktX2_number_0 : List UInt8 := dkwX2_number_0 ++ dktX2_number_1
theorem dksX2_number_0 : cX2_number.data.toList.drop 0 = dktX2_number_0 := by decide +kernel
theorem dksX2_number_1 : cX2_number.data.toList.drop 24 = dktX2_number_1 := dk_seg dksX2_number_0 24 rfl rfl
theorem dksX2_number_2 : cX2_number.data.toList.drop 48 = dktX2_number_2 := dk_seg dksX2_number_1 24 rfl rfl
theorem dksX2_number_3 : cX2_number.data.toList.drop 71 = dktX2_number_3 := dk_seg dksX2_number_2 23 rfl rfl
theorem dksX2_number_4 : cX2_number.data.toList.drop 95 = dktX2_number_4 := dk_seg dksX2_number_3 24 rfl rfl
theorem dksX2_number_5 : cX2_number.data.toList.drop 119 = dktX2_number_5 := dk_seg dksX2_number_4 24 rfl rfl
theorem dX2_number_0 : decode cX2_number 0 = .ok (.aload_n 0, 1) := dk_42 (dk_at dksX2_number_0 0 rfl rfl)
theorem dX2_number_1 : decode cX2_number 1 = .ok (.invokevirtual 43, 3) := dk_182 0 43 (dk_at dksX2_number_0 1 rfl rfl)
theorem dX2_number_4 : decode cX2_number 4 = .ok (.invokestatic 55, 3) := dk_184 0 55 (dk_at dksX2_number_0 4 rfl rfl)
theorem dX2_number_7 : decode cX2_number 7 = .ok (.ifCond .ne 13, 3) := dk_154 0 13 (dk_at dksX2_number_0 7 rfl rfl)
theorem dX2_number_10 : decode cX2_number 10 = .ok (.aload_n 0, 1) := dk_42 (dk_at dksX2_number_0 10 rfl rfl)
theorem dX2_number_11 : decode cX2_number 11 = .ok (.iconst 1, 1) := dk_4 (dk_at dksX2_number_0 11 rfl rfl)
theorem dX2_number_12 : decode cX2_number 12 = .ok (.aload_n 0, 1) := dk_42 (dk_at dksX2_number_0 12 rfl rfl)
theorem dX2_number_13 : decode cX2_number 13 = .ok (.getfield 36, 3) := dk_180 0 36 (dk_at dksX2_number_0 13 rfl rfl)
theorem dX2_number_16 : decode cX2_number 16 = .ok (.invokevirtual 47, 3) := dk_182 0 47 (dk_at dksX2_number_0 16 rfl rfl)
theorem dX2_number_19 : decode cX2_number 19 = .ok (.athrow, 1) := dk_191 (dk_at dksX2_number_0 19 rfl rfl)
theorem dX2_number_20 : decode cX2_number 20 = .ok (.aload_n 0, 1) := dk_42 (dk_at dksX2_number_0 20 rfl rfl)
theorem dX2_number_21 : decode cX2_number 21 = .ok (.invokevirtual 58, 3) := dk_182 0 58 (dk_at dksX2_number_0 21 rfl rfl)
theorem dX2_number_24 : decode cX2_number 24 = .ok (.aload_n 0, 1) := dk_42 (dk_at dksX2_number_1 0 rfl rfl)
theorem dX2_number_25 : decode cX2_number 25 = .ok (.aload_n 0, 1) := dk_42 (dk_at dksX2_number_1 1 rfl rfl)
theorem dX2_number_26 : decode cX2_number 26 = .ok (.getfield 36, 3) := dk_180 0 36 (dk_at dksX2_number_1 2 rfl rfl)
theorem dX2_number_29 : decode cX2_number 29 = .ok (.putfield 61, 3) := dk_181 0 61 (dk_at dksX2_number_1 5 rfl rfl)
theorem dX2_number_32 : decode cX2_number 32 = .ok (.iconst 0, 1) := dk_3 (dk_at dksX2_number_1 8 rfl rfl)
theorem dX2_number_33 : decode cX2_number 33 = .ok (.istore_n 3, 1) := dk_62 (dk_at dksX2_number_1 9 rfl rfl)
theorem dX2_number_34 : decode cX2_number 34 = .ok (.aload_n 0, 1) := dk_42 (dk_at dksX2_number_1 10 rfl rfl)
theorem dX2_number_35 : decode cX2_number 35 = .ok (.aload_n 0, 1) := dk_42 (dk_at dksX2_number_1 11 rfl rfl)
theorem dX2_number_36 : decode cX2_number 36 = .ok (.getfield 36, 3) := dk_180 0 36 (dk_at dksX2_number_1 12 rfl rfl)
theorem dX2_number_39 : decode cX2_number 39 = .ok (.invokevirtual 39, 3) := dk_182 0 39 (dk_at dksX2_number_1 15 rfl rfl)
theorem dX2_number_42 : decode cX2_number 42 = .ok (.invokestatic 55, 3) := dk_184 0 55 (dk_at dksX2_number_1 18 rfl rfl)
theorem dX2_number_45 : decode cX2_number 45 = .ok (.ifCond .eq 56, 3) := dk_153 0 56 (dk_at dksX2_number_1 21 rfl rfl)
theorem dX2_number_48 : decode cX2_number 48 = .ok (.aload_n 0, 1) := dk_42 (dk_at dksX2_number_2 0 rfl rfl)
theorem dX2_number_49 : decode cX2_number 49 = .ok (.getfield 36, 3) := dk_180 0 36 (dk_at dksX2_number_2 1 rfl rfl)
theorem dX2_number_52 : decode cX2_number 52 = .ok (.aload_n 0, 1) := dk_42 (dk_at dksX2_number_2 4 rfl rfl)
theorem dX2_number_53 : decode cX2_number 53 = .ok (.getfield 61, 3) := dk_180 0 61 (dk_at dksX2_number_2 5 rfl rfl)
theorem dX2_number_56 : decode cX2_number 56 = .ok (.isub, 1) := dk_100 (dk_at dksX2_number_2 8 rfl rfl)
theorem dX2_number_57 : decode cX2_number 57 = .ok (.iconst 4, 1) := dk_7 (dk_at dksX2_number_2 9 rfl rfl)
theorem dX2_number_58 : decode cX2_number 58 = .ok (.if_icmp .ne 13, 3) := dk_160 0 13 (dk_at dksX2_number_2 10 rfl rfl)
theorem dX2_number_61 : decode cX2_number 61 = .ok (.aload_n 0, 1) := dk_42 (dk_at dksX2_number_2 13 rfl rfl)
theorem dX2_number_62 : decode cX2_number 62 = .ok (.iconst 1, 1) := dk_4 (dk_at dksX2_number_2 14 rfl rfl)
theorem dX2_number_63 : decode cX2_number 63 = .ok (.aload_n 0, 1) := dk_42 (dk_at dksX2_number_2 15 rfl rfl)
theorem dX2_number_64 : decode cX2_number 64 = .ok (.getfield 36, 3) := dk_180 0 36 (dk_at dksX2_number_2 16 rfl rfl)
theorem dX2_number_67 : decode cX2_number 67 = .ok (.invokevirtual 47, 3) := dk_182 0 47 (dk_at dksX2_number_2 19 rfl rfl)
theorem dX2_number_70 : decode cX2_number 70 = .ok (.athrow, 1) := dk_191 (dk_at dksX2_number_2 22 rfl rfl)
theorem dX2_number_71 : decode cX2_number 71 = .ok (.bipush 10, 2) := dk_16 10 (dk_at dksX2_number_3 0 rfl rfl)
theorem dX2_number_73 : decode cX2_number 73 = .ok (.iload_n 3, 1) := dk_29 (dk_at dksX2_number_3 2 rfl rfl)
theorem dX2_number_74 : decode cX2_number 74 = .ok (.imul, 1) := dk_104 (dk_at dksX2_number_3 3 rfl rfl)
theorem dX2_number_75 : decode cX2_number 75 = .ok (.aload_n 0, 1) := dk_42 (dk_at dksX2_number_3 4 rfl rfl)
theorem dX2_number_76 : decode cX2_number 76 = .ok (.aload_n 0, 1) := dk_42 (dk_at dksX2_number_3 5 rfl rfl)
theorem dX2_number_77 : decode cX2_number 77 = .ok (.getfield 36, 3) := dk_180 0 36 (dk_at dksX2_number_3 6 rfl rfl)
theorem dX2_number_80 : decode cX2_number 80 = .ok (.invokevirtual 39, 3) := dk_182 0 39 (dk_at dksX2_number_3 9 rfl rfl)
theorem dX2_number_83 : decode cX2_number 83 = .ok (.iadd, 1) := dk_96 (dk_at dksX2_number_3 12 rfl rfl)
theorem dX2_number_84 : decode cX2_number 84 = .ok (.bipush 48, 2) := dk_16 48 (dk_at dksX2_number_3 13 rfl rfl)
theorem dX2_number_86 : decode cX2_number 86 = .ok (.isub, 1) := dk_100 (dk_at dksX2_number_3 15 rfl rfl)
theorem dX2_number_87 : decode cX2_number 87 = .ok (.istore_n 3, 1) := dk_62 (dk_at dksX2_number_3 16 rfl rfl)
theorem dX2_number_88 : decode cX2_number 88 = .ok (.aload_n 0, 1) := dk_42 (dk_at dksX2_number_3 17 rfl rfl)
theorem dX2_number_89 : decode cX2_number 89 = .ok (.dup, 1) := dk_89 (dk_at dksX2_number_3 18 rfl rfl)
theorem dX2_number_90 : decode cX2_number 90 = .ok (.getfield 36, 3) := dk_180 0 36 (dk_at dksX2_number_3 19 rfl rfl)
theorem dX2_number_93 : decode cX2_number 93 = .ok (.iconst 1, 1) := dk_4 (dk_at dksX2_number_3 22 rfl rfl)
theorem dX2_number_94 : decode cX2_number 94 = .ok (.iadd, 1) := dk_96 (dk_at dksX2_number_3 23 rfl rfl)
theorem dX2_number_95 : decode cX2_number 95 = .ok (.putfield 36, 3) := dk_181 0 36 (dk_at dksX2_number_4 0 rfl rfl)
theorem dX2_number_98 : decode cX2_number 98 = .ok (.goto (-64), 3) := dk_167 255 192 (dk_at dksX2_number_4 3 rfl rfl)
theorem dX2_number_101 : decode cX2_number 101 = .ok (.iload_n 3, 1) := dk_29 (dk_at dksX2_number_4 6 rfl rfl)
theorem dX2_number_102 : decode cX2_number 102 = .ok (.iload_n 1, 1) := dk_27 (dk_at dksX2_number_4 7 rfl rfl)
theorem dX2_number_103 : decode cX2_number 103 = .ok (.iload_n 2, 1) := dk_28 (dk_at dksX2_number_4 8 rfl rfl)
theorem dX2_number_104 : decode cX2_number 104 = .ok (.invokestatic 89, 3) := dk_184 0 89 (dk_at dksX2_number_4 9 rfl rfl)
theorem dX2_number_107 : decode cX2_number 107 = .ok (.ifCond .ne 13, 3) := dk_154 0 13 (dk_at dksX2_number_4 12 rfl rfl)
theorem dX2_number_110 : decode cX2_number 110 = .ok (.aload_n 0, 1) := dk_42 (dk_at dksX2_number_4 15 rfl rfl)
theorem dX2_number_111 : decode cX2_number 111 = .ok (.iconst 2, 1) := dk_5 (dk_at dksX2_number_4 16 rfl rfl)
theorem dX2_number_112 : decode cX2_number 112 = .ok (.aload_n 0, 1) := dk_42 (dk_at dksX2_number_4 17 rfl rfl)
theorem dX2_number_113 : decode cX2_number 113 = .ok (.getfield 61, 3) := dk_180 0 61 (dk_at dksX2_number_4 18 rfl rfl)
theorem dX2_number_116 : decode cX2_number 116 = .ok (.invokevirtual 47, 3) := dk_182 0 47 (dk_at dksX2_number_4 21 rfl rfl)
theorem dX2_number_119 : decode cX2_number 119 = .ok (.athrow, 1) := dk_191 (dk_at dksX2_number_5 0 rfl rfl)
theorem dX2_number_120 : decode cX2_number 120 = .ok (.iload_n 3, 1) := dk_29 (dk_at dksX2_number_5 1 rfl rfl)
theorem dX2_number_121 : decode cX2_number 121 = .ok (.ireturn, 1) := dk_172 (dk_at dksX2_number_5 2 rfl rfl)
abbrev cX2_must : ByteArray := prog_16_method_5_code
def yX2_must : MethodName := ⟨RX2, "must", "(I)V"⟩
def dkwX2_must_1 : List UInt8 := [96, 181, 0, 36, 177]
abbrev dktX2_must_1 : List UInt8 := dkwX2_must_1 ++ []
def dkwX2_must_0 : List UInt8 := [42, 182, 0, 43, 27, 159, 0, 13, 42, 4, 42, 180, 0, 36, 182, 0, 47, 191, 42, 89, 180, 0, 36, 4]
abbrev dktX2_must_0 : List UInt8 := dkwX2_must_0 ++ dktX2_must_1
theorem dksX2_must_0 : cX2_must.data.toList.drop 0 = dktX2_must_0 := by decide +kernel
theorem dksX2_must_1 : cX2_must.data.toList.drop 24 = dktX2_must_1 := dk_seg dksX2_must_0 24 rfl rfl
theorem dX2_must_0 : decode cX2_must 0 = .ok (.aload_n 0, 1) := dk_42 (dk_at dksX2_must_0 0 rfl rfl)
theorem dX2_must_1 : decode cX2_must 1 = .ok (.invokevirtual 43, 3) := dk_182 0 43 (dk_at dksX2_must_0 1 rfl rfl)
theorem dX2_must_4 : decode cX2_must 4 = .ok (.iload_n 1, 1) := dk_27 (dk_at dksX2_must_0 4 rfl rfl)
theorem dX2_must_5 : decode cX2_must 5 = .ok (.if_icmp .eq 13, 3) := dk_159 0 13 (dk_at dksX2_must_0 5 rfl rfl)
theorem dX2_must_8 : decode cX2_must 8 = .ok (.aload_n 0, 1) := dk_42 (dk_at dksX2_must_0 8 rfl rfl)
theorem dX2_must_9 : decode cX2_must 9 = .ok (.iconst 1, 1) := dk_4 (dk_at dksX2_must_0 9 rfl rfl)
theorem dX2_must_10 : decode cX2_must 10 = .ok (.aload_n 0, 1) := dk_42 (dk_at dksX2_must_0 10 rfl rfl)
theorem dX2_must_11 : decode cX2_must 11 = .ok (.getfield 36, 3) := dk_180 0 36 (dk_at dksX2_must_0 11 rfl rfl)
theorem dX2_must_14 : decode cX2_must 14 = .ok (.invokevirtual 47, 3) := dk_182 0 47 (dk_at dksX2_must_0 14 rfl rfl)
theorem dX2_must_17 : decode cX2_must 17 = .ok (.athrow, 1) := dk_191 (dk_at dksX2_must_0 17 rfl rfl)
theorem dX2_must_18 : decode cX2_must 18 = .ok (.aload_n 0, 1) := dk_42 (dk_at dksX2_must_0 18 rfl rfl)
theorem dX2_must_19 : decode cX2_must 19 = .ok (.dup, 1) := dk_89 (dk_at dksX2_must_0 19 rfl rfl)
theorem dX2_must_20 : decode cX2_must 20 = .ok (.getfield 36, 3) := dk_180 0 36 (dk_at dksX2_must_0 20 rfl rfl)
theorem dX2_must_23 : decode cX2_must 23 = .ok (.iconst 1, 1) := dk_4 (dk_at dksX2_must_0 23 rfl rfl)
theorem dX2_must_24 : decode cX2_must 24 = .ok (.iadd, 1) := dk_96 (dk_at dksX2_must_1 0 rfl rfl)
theorem dX2_must_25 : decode cX2_must 25 = .ok (.putfield 36, 3) := dk_181 0 36 (dk_at dksX2_must_1 1 rfl rfl)
theorem dX2_must_28 : decode cX2_must 28 = .ok (.return_, 1) := dk_177 (dk_at dksX2_must_1 4 rfl rfl)
abbrev cX2_most : ByteArray := prog_16_method_14_code
def yX2_most : MethodName := ⟨RX2, "most", "(ZI)V"⟩
def dkwX2_most_0 : List UInt8 := [27, 153, 0, 10, 42, 8, 28, 182, 0, 47, 191, 177]
abbrev dktX2_most_0 : List UInt8 := dkwX2_most_0 ++ []
theorem dksX2_most_0 : cX2_most.data.toList.drop 0 = dktX2_most_0 := by decide +kernel
theorem dX2_most_0 : decode cX2_most 0 = .ok (.iload_n 1, 1) := dk_27 (dk_at dksX2_most_0 0 rfl rfl)
theorem dX2_most_1 : decode cX2_most 1 = .ok (.ifCond .eq 10, 3) := dk_153 0 10 (dk_at dksX2_most_0 1 rfl rfl)
theorem dX2_most_4 : decode cX2_most 4 = .ok (.aload_n 0, 1) := dk_42 (dk_at dksX2_most_0 4 rfl rfl)
theorem dX2_most_5 : decode cX2_most 5 = .ok (.iconst 5, 1) := dk_8 (dk_at dksX2_most_0 5 rfl rfl)
theorem dX2_most_6 : decode cX2_most 6 = .ok (.iload_n 2, 1) := dk_28 (dk_at dksX2_most_0 6 rfl rfl)
theorem dX2_most_7 : decode cX2_most 7 = .ok (.invokevirtual 47, 3) := dk_182 0 47 (dk_at dksX2_most_0 7 rfl rfl)
theorem dX2_most_10 : decode cX2_most 10 = .ok (.athrow, 1) := dk_191 (dk_at dksX2_most_0 10 rfl rfl)
theorem dX2_most_11 : decode cX2_most 11 = .ok (.return_, 1) := dk_177 (dk_at dksX2_most_0 11 rfl rfl)
abbrev cX2_named : ByteArray := prog_16_method_16_code
def yX2_named : MethodName := ⟨RX2, "named", "(Ljava/lang/String;I)Z"⟩
def dkwX2_named_15 : List UInt8 := [172, 3, 172]
abbrev dktX2_named_15 : List UInt8 := dkwX2_named_15 ++ []
def dkwX2_named_14 : List UInt8 := [180, 0, 61, 182, 0, 47, 191, 42, 180, 0, 103, 89, 180, 0, 190, 4, 21, 10, 120, 128, 181, 0, 190, 4]
abbrev dktX2_named_14 : List UInt8 := dkwX2_named_14 ++ dktX2_named_15
def dkwX2_named_13 : List UInt8 := [21, 10, 2, 159, 0, 18, 42, 180, 0, 103, 180, 0, 190, 21, 10, 184, 0, 192, 153, 0, 13, 42, 6, 42]
abbrev dktX2_named_13 : List UInt8 := dkwX2_named_13 ++ dktX2_named_14
def dkwX2_named_12 : List UInt8 := [185, 0, 171, 2, 0, 87, 4, 172, 42, 180, 0, 103, 180, 0, 174, 42, 182, 0, 100, 184, 0, 185, 54, 10]
abbrev dktX2_named_12 : List UInt8 := dkwX2_named_12 ++ dktX2_named_13
def dkwX2_named_11 : List UInt8 := [187, 0, 178, 89, 25, 8, 21, 9, 42, 18, 180, 3, 16, 9, 182, 0, 161, 183, 0, 182]
abbrev dktX2_named_11 : List UInt8 := dkwX2_named_11 ++ dktX2_named_12
def dkwX2_named_10 : List UInt8 := [182, 0, 157, 58, 8, 42, 18, 177, 3, 16, 9, 182, 0, 161, 54, 9, 42, 180, 0, 103, 180, 0, 174]
abbrev dktX2_named_10 : List UInt8 := dkwX2_named_10 ++ dktX2_named_11
def dkwX2_named_9 : List UInt8 := [180, 0, 174, 185, 0, 153, 1, 0, 16, 7, 160, 0, 7, 4, 167, 0, 4, 3, 28, 182, 0, 128, 42]
abbrev dktX2_named_9 : List UInt8 := dkwX2_named_9 ++ dktX2_named_10
def dkwX2_named_8 : List UInt8 := [18, 166, 3, 16, 9, 182, 0, 161, 183, 0, 168, 185, 0, 171, 2, 0, 87, 4, 172, 42, 42, 180, 0, 103]
abbrev dktX2_named_8 : List UInt8 := dkwX2_named_8 ++ dktX2_named_9
def dkwX2_named_7 : List UInt8 := [182, 0, 96, 54, 7, 42, 180, 0, 103, 180, 0, 149, 187, 0, 164, 89, 25, 5, 21, 6, 21, 7, 42]
abbrev dktX2_named_7 : List UInt8 := dkwX2_named_7 ++ dktX2_named_8
def dkwX2_named_6 : List UInt8 := [182, 0, 128, 42, 182, 0, 157, 58, 5, 42, 18, 160, 3, 16, 9, 182, 0, 161, 54, 6, 42, 3, 16, 9]
abbrev dktX2_named_6 : List UInt8 := dkwX2_named_6 ++ dktX2_named_7
def dkwX2_named_5 : List UInt8 := [42, 42, 180, 0, 103, 180, 0, 149, 185, 0, 153, 1, 0, 16, 6, 160, 0, 7, 4, 167, 0, 4, 3, 28]
abbrev dktX2_named_5 : List UInt8 := dkwX2_named_5 ++ dktX2_named_6
def dkwX2_named_4 : List UInt8 := [170, 0, 0, 0, 0, 0, 1, 6, 0, 0, 0, 0, 0, 0, 0, 2, 0, 0, 0, 28, 0, 0, 0, 118, 0, 0, 0, 197]
abbrev dktX2_named_4 : List UInt8 := dkwX2_named_4 ++ dktX2_named_5
def dkwX2_named_3 : List UInt8 := [4, 54, 4, 167, 0, 15, 45, 18, 147, 182, 0, 74, 153, 0, 6, 5, 54, 4, 21, 4]
abbrev dktX2_named_3 : List UInt8 := dkwX2_named_3 ++ dktX2_named_4
def dkwX2_named_2 : List UInt8 := [45, 18, 143, 182, 0, 74, 153, 0, 36, 3, 54, 4, 167, 0, 30, 45, 18, 145, 182, 0, 74, 153, 0, 21]
abbrev dktX2_named_2 : List UInt8 := dkwX2_named_2 ++ dktX2_named_3
def dkwX2_named_1 : List UInt8 := [171, 0, 0, 0, 0, 0, 77, 0, 0, 0, 3, 201, 204, 208, 23, 0, 0, 0, 35, 0, 50, 160, 255, 0, 0, 0, 65, 0, 55, 45, 31, 0, 0, 0, 50]
abbrev dktX2_named_1 : List UInt8 := dkwX2_named_1 ++ dktX2_named_2
def dkwX2_named_0 : List UInt8 := [43, 78, 2, 54, 4, 45, 182, 0, 140]
abbrev dktX2_named_0 : List UInt8 := dkwX2_named_0 ++ dktX2_named_1
theorem dksX2_named_0 : cX2_named.data.toList.drop 0 = dktX2_named_0 := by decide +kernel
theorem dksX2_named_1 : cX2_named.data.toList.drop 9 = dktX2_named_1 := dk_seg dksX2_named_0 9 rfl rfl
theorem dksX2_named_2 : cX2_named.data.toList.drop 44 = dktX2_named_2 := dk_seg dksX2_named_1 35 rfl rfl
theorem dksX2_named_3 : cX2_named.data.toList.drop 68 = dktX2_named_3 := dk_seg dksX2_named_2 24 rfl rfl
theorem dksX2_named_4 : cX2_named.data.toList.drop 88 = dktX2_named_4 := dk_seg dksX2_named_3 20 rfl rfl
theorem dksX2_named_5 : cX2_named.data.toList.drop 116 = dktX2_named_5 := dk_seg dksX2_named_4 28 rfl rfl
theorem dksX2_named_6 : cX2_named.data.toList.drop 140 = dktX2_named_6 := dk_seg dksX2_named_5 24 rfl rfl
theorem dksX2_named_7 : cX2_named.data.toList.drop 164 = dktX2_named_7 := dk_seg dksX2_named_6 24 rfl rfl
theorem dksX2_named_8 : cX2_named.data.toList.drop 187 = dktX2_named_8 := dk_seg dksX2_named_7 23 rfl rfl
theorem dksX2_named_9 : cX2_named.data.toList.drop 211 = dktX2_named_9 := dk_seg dksX2_named_8 24 rfl rfl
theorem dksX2_named_10 : cX2_named.data.toList.drop 234 = dktX2_named_10 := dk_seg dksX2_named_9 23 rfl rfl
theorem dksX2_named_11 : cX2_named.data.toList.drop 257 = dktX2_named_11 := dk_seg dksX2_named_10 23 rfl rfl
theorem dksX2_named_12 : cX2_named.data.toList.drop 277 = dktX2_named_12 := dk_seg dksX2_named_11 20 rfl rfl
theorem dksX2_named_13 : cX2_named.data.toList.drop 301 = dktX2_named_13 := dk_seg dksX2_named_12 24 rfl rfl
theorem dksX2_named_14 : cX2_named.data.toList.drop 325 = dktX2_named_14 := dk_seg dksX2_named_13 24 rfl rfl
theorem dksX2_named_15 : cX2_named.data.toList.drop 349 = dktX2_named_15 := dk_seg dksX2_named_14 24 rfl rfl
theorem dX2_named_0 : decode cX2_named 0 = .ok (.aload_n 1, 1) := dk_43 (dk_at dksX2_named_0 0 rfl rfl)
theorem dX2_named_1 : decode cX2_named 1 = .ok (.astore_n 3, 1) := dk_78 (dk_at dksX2_named_0 1 rfl rfl)
theorem dX2_named_2 : decode cX2_named 2 = .ok (.iconst (-1), 1) := dk_2 (dk_at dksX2_named_0 2 rfl rfl)
theorem dX2_named_3 : decode cX2_named 3 = .ok (.istore 4, 2) := dk_54 4 (dk_at dksX2_named_0 3 rfl rfl)
theorem dX2_named_5 : decode cX2_named 5 = .ok (.aload_n 3, 1) := dk_45 (dk_at dksX2_named_0 5 rfl rfl)
theorem dX2_named_6 : decode cX2_named 6 = .ok (.invokevirtual 140, 3) := dk_182 0 140 (dk_at dksX2_named_0 6 rfl rfl)
theorem dX2_named_9 : decode cX2_named 9 = .ok (.lookupswitch 77 #[(-909324265, 35), (3318015, 65), (3616031, 50)], 35) := by decide +kernel
theorem dX2_named_44 : decode cX2_named 44 = .ok (.aload_n 3, 1) := dk_45 (dk_at dksX2_named_2 0 rfl rfl)
theorem dX2_named_45 : decode cX2_named 45 = .ok (.ldc 143, 2) := dk_18 143 (dk_at dksX2_named_2 1 rfl rfl)
theorem dX2_named_47 : decode cX2_named 47 = .ok (.invokevirtual 74, 3) := dk_182 0 74 (dk_at dksX2_named_2 3 rfl rfl)
theorem dX2_named_50 : decode cX2_named 50 = .ok (.ifCond .eq 36, 3) := dk_153 0 36 (dk_at dksX2_named_2 6 rfl rfl)
theorem dX2_named_53 : decode cX2_named 53 = .ok (.iconst 0, 1) := dk_3 (dk_at dksX2_named_2 9 rfl rfl)
theorem dX2_named_54 : decode cX2_named 54 = .ok (.istore 4, 2) := dk_54 4 (dk_at dksX2_named_2 10 rfl rfl)
theorem dX2_named_56 : decode cX2_named 56 = .ok (.goto 30, 3) := dk_167 0 30 (dk_at dksX2_named_2 12 rfl rfl)
theorem dX2_named_59 : decode cX2_named 59 = .ok (.aload_n 3, 1) := dk_45 (dk_at dksX2_named_2 15 rfl rfl)
theorem dX2_named_60 : decode cX2_named 60 = .ok (.ldc 145, 2) := dk_18 145 (dk_at dksX2_named_2 16 rfl rfl)
theorem dX2_named_62 : decode cX2_named 62 = .ok (.invokevirtual 74, 3) := dk_182 0 74 (dk_at dksX2_named_2 18 rfl rfl)
theorem dX2_named_65 : decode cX2_named 65 = .ok (.ifCond .eq 21, 3) := dk_153 0 21 (dk_at dksX2_named_2 21 rfl rfl)
theorem dX2_named_68 : decode cX2_named 68 = .ok (.iconst 1, 1) := dk_4 (dk_at dksX2_named_3 0 rfl rfl)
theorem dX2_named_69 : decode cX2_named 69 = .ok (.istore 4, 2) := dk_54 4 (dk_at dksX2_named_3 1 rfl rfl)
theorem dX2_named_71 : decode cX2_named 71 = .ok (.goto 15, 3) := dk_167 0 15 (dk_at dksX2_named_3 3 rfl rfl)
theorem dX2_named_74 : decode cX2_named 74 = .ok (.aload_n 3, 1) := dk_45 (dk_at dksX2_named_3 6 rfl rfl)
theorem dX2_named_75 : decode cX2_named 75 = .ok (.ldc 147, 2) := dk_18 147 (dk_at dksX2_named_3 7 rfl rfl)
theorem dX2_named_77 : decode cX2_named 77 = .ok (.invokevirtual 74, 3) := dk_182 0 74 (dk_at dksX2_named_3 9 rfl rfl)
theorem dX2_named_80 : decode cX2_named 80 = .ok (.ifCond .eq 6, 3) := dk_153 0 6 (dk_at dksX2_named_3 12 rfl rfl)
theorem dX2_named_83 : decode cX2_named 83 = .ok (.iconst 2, 1) := dk_5 (dk_at dksX2_named_3 15 rfl rfl)
theorem dX2_named_84 : decode cX2_named 84 = .ok (.istore 4, 2) := dk_54 4 (dk_at dksX2_named_3 16 rfl rfl)
theorem dX2_named_86 : decode cX2_named 86 = .ok (.iload 4, 2) := dk_21 4 (dk_at dksX2_named_3 18 rfl rfl)
theorem dX2_named_88 : decode cX2_named 88 = .ok (.tableswitch 262 0 2 #[28, 118, 197], 28) := by decide +kernel
theorem dX2_named_116 : decode cX2_named 116 = .ok (.aload_n 0, 1) := dk_42 (dk_at dksX2_named_5 0 rfl rfl)
theorem dX2_named_117 : decode cX2_named 117 = .ok (.aload_n 0, 1) := dk_42 (dk_at dksX2_named_5 1 rfl rfl)
theorem dX2_named_118 : decode cX2_named 118 = .ok (.getfield 103, 3) := dk_180 0 103 (dk_at dksX2_named_5 2 rfl rfl)
theorem dX2_named_121 : decode cX2_named 121 = .ok (.getfield 149, 3) := dk_180 0 149 (dk_at dksX2_named_5 5 rfl rfl)
theorem dX2_named_124 : decode cX2_named 124 = .ok (.invokeinterface 153 1, 5) := by decide +kernel
theorem dX2_named_129 : decode cX2_named 129 = .ok (.bipush 6, 2) := dk_16 6 (dk_at dksX2_named_5 13 rfl rfl)
theorem dX2_named_131 : decode cX2_named 131 = .ok (.if_icmp .ne 7, 3) := dk_160 0 7 (dk_at dksX2_named_5 15 rfl rfl)
theorem dX2_named_134 : decode cX2_named 134 = .ok (.iconst 1, 1) := dk_4 (dk_at dksX2_named_5 18 rfl rfl)
theorem dX2_named_135 : decode cX2_named 135 = .ok (.goto 4, 3) := dk_167 0 4 (dk_at dksX2_named_5 19 rfl rfl)
theorem dX2_named_138 : decode cX2_named 138 = .ok (.iconst 0, 1) := dk_3 (dk_at dksX2_named_5 22 rfl rfl)
theorem dX2_named_139 : decode cX2_named 139 = .ok (.iload_n 2, 1) := dk_28 (dk_at dksX2_named_5 23 rfl rfl)
theorem dX2_named_140 : decode cX2_named 140 = .ok (.invokevirtual 128, 3) := dk_182 0 128 (dk_at dksX2_named_6 0 rfl rfl)
theorem dX2_named_143 : decode cX2_named 143 = .ok (.aload_n 0, 1) := dk_42 (dk_at dksX2_named_6 3 rfl rfl)
theorem dX2_named_144 : decode cX2_named 144 = .ok (.invokevirtual 157, 3) := dk_182 0 157 (dk_at dksX2_named_6 4 rfl rfl)
theorem dX2_named_147 : decode cX2_named 147 = .ok (.astore 5, 2) := dk_58 5 (dk_at dksX2_named_6 7 rfl rfl)
theorem dX2_named_149 : decode cX2_named 149 = .ok (.aload_n 0, 1) := dk_42 (dk_at dksX2_named_6 9 rfl rfl)
theorem dX2_named_150 : decode cX2_named 150 = .ok (.ldc 160, 2) := dk_18 160 (dk_at dksX2_named_6 10 rfl rfl)
theorem dX2_named_152 : decode cX2_named 152 = .ok (.iconst 0, 1) := dk_3 (dk_at dksX2_named_6 12 rfl rfl)
theorem dX2_named_153 : decode cX2_named 153 = .ok (.bipush 9, 2) := dk_16 9 (dk_at dksX2_named_6 13 rfl rfl)
theorem dX2_named_155 : decode cX2_named 155 = .ok (.invokevirtual 161, 3) := dk_182 0 161 (dk_at dksX2_named_6 15 rfl rfl)
theorem dX2_named_158 : decode cX2_named 158 = .ok (.istore 6, 2) := dk_54 6 (dk_at dksX2_named_6 18 rfl rfl)
theorem dX2_named_160 : decode cX2_named 160 = .ok (.aload_n 0, 1) := dk_42 (dk_at dksX2_named_6 20 rfl rfl)
theorem dX2_named_161 : decode cX2_named 161 = .ok (.iconst 0, 1) := dk_3 (dk_at dksX2_named_6 21 rfl rfl)
theorem dX2_named_162 : decode cX2_named 162 = .ok (.bipush 9, 2) := dk_16 9 (dk_at dksX2_named_6 22 rfl rfl)
theorem dX2_named_164 : decode cX2_named 164 = .ok (.invokevirtual 96, 3) := dk_182 0 96 (dk_at dksX2_named_7 0 rfl rfl)
theorem dX2_named_167 : decode cX2_named 167 = .ok (.istore 7, 2) := dk_54 7 (dk_at dksX2_named_7 3 rfl rfl)
theorem dX2_named_169 : decode cX2_named 169 = .ok (.aload_n 0, 1) := dk_42 (dk_at dksX2_named_7 5 rfl rfl)
theorem dX2_named_170 : decode cX2_named 170 = .ok (.getfield 103, 3) := dk_180 0 103 (dk_at dksX2_named_7 6 rfl rfl)
theorem dX2_named_173 : decode cX2_named 173 = .ok (.getfield 149, 3) := dk_180 0 149 (dk_at dksX2_named_7 9 rfl rfl)
theorem dX2_named_176 : decode cX2_named 176 = .ok (.new 164, 3) := dk_187 0 164 (dk_at dksX2_named_7 12 rfl rfl)
theorem dX2_named_179 : decode cX2_named 179 = .ok (.dup, 1) := dk_89 (dk_at dksX2_named_7 15 rfl rfl)
theorem dX2_named_180 : decode cX2_named 180 = .ok (.aload 5, 2) := dk_25 5 (dk_at dksX2_named_7 16 rfl rfl)
theorem dX2_named_182 : decode cX2_named 182 = .ok (.iload 6, 2) := dk_21 6 (dk_at dksX2_named_7 18 rfl rfl)
theorem dX2_named_184 : decode cX2_named 184 = .ok (.iload 7, 2) := dk_21 7 (dk_at dksX2_named_7 20 rfl rfl)
theorem dX2_named_186 : decode cX2_named 186 = .ok (.aload_n 0, 1) := dk_42 (dk_at dksX2_named_7 22 rfl rfl)
theorem dX2_named_187 : decode cX2_named 187 = .ok (.ldc 166, 2) := dk_18 166 (dk_at dksX2_named_8 0 rfl rfl)
theorem dX2_named_189 : decode cX2_named 189 = .ok (.iconst 0, 1) := dk_3 (dk_at dksX2_named_8 2 rfl rfl)
theorem dX2_named_190 : decode cX2_named 190 = .ok (.bipush 9, 2) := dk_16 9 (dk_at dksX2_named_8 3 rfl rfl)
theorem dX2_named_192 : decode cX2_named 192 = .ok (.invokevirtual 161, 3) := dk_182 0 161 (dk_at dksX2_named_8 5 rfl rfl)
theorem dX2_named_195 : decode cX2_named 195 = .ok (.invokespecial 168, 3) := dk_183 0 168 (dk_at dksX2_named_8 8 rfl rfl)
theorem dX2_named_198 : decode cX2_named 198 = .ok (.invokeinterface 171 2, 5) := by decide +kernel
theorem dX2_named_203 : decode cX2_named 203 = .ok (.pop, 1) := dk_87 (dk_at dksX2_named_8 16 rfl rfl)
theorem dX2_named_204 : decode cX2_named 204 = .ok (.iconst 1, 1) := dk_4 (dk_at dksX2_named_8 17 rfl rfl)
theorem dX2_named_205 : decode cX2_named 205 = .ok (.ireturn, 1) := dk_172 (dk_at dksX2_named_8 18 rfl rfl)
theorem dX2_named_206 : decode cX2_named 206 = .ok (.aload_n 0, 1) := dk_42 (dk_at dksX2_named_8 19 rfl rfl)
theorem dX2_named_207 : decode cX2_named 207 = .ok (.aload_n 0, 1) := dk_42 (dk_at dksX2_named_8 20 rfl rfl)
theorem dX2_named_208 : decode cX2_named 208 = .ok (.getfield 103, 3) := dk_180 0 103 (dk_at dksX2_named_8 21 rfl rfl)
theorem dX2_named_211 : decode cX2_named 211 = .ok (.getfield 174, 3) := dk_180 0 174 (dk_at dksX2_named_9 0 rfl rfl)
theorem dX2_named_214 : decode cX2_named 214 = .ok (.invokeinterface 153 1, 5) := by decide +kernel
theorem dX2_named_219 : decode cX2_named 219 = .ok (.bipush 7, 2) := dk_16 7 (dk_at dksX2_named_9 8 rfl rfl)
theorem dX2_named_221 : decode cX2_named 221 = .ok (.if_icmp .ne 7, 3) := dk_160 0 7 (dk_at dksX2_named_9 10 rfl rfl)
theorem dX2_named_224 : decode cX2_named 224 = .ok (.iconst 1, 1) := dk_4 (dk_at dksX2_named_9 13 rfl rfl)
theorem dX2_named_225 : decode cX2_named 225 = .ok (.goto 4, 3) := dk_167 0 4 (dk_at dksX2_named_9 14 rfl rfl)
theorem dX2_named_228 : decode cX2_named 228 = .ok (.iconst 0, 1) := dk_3 (dk_at dksX2_named_9 17 rfl rfl)
theorem dX2_named_229 : decode cX2_named 229 = .ok (.iload_n 2, 1) := dk_28 (dk_at dksX2_named_9 18 rfl rfl)
theorem dX2_named_230 : decode cX2_named 230 = .ok (.invokevirtual 128, 3) := dk_182 0 128 (dk_at dksX2_named_9 19 rfl rfl)
theorem dX2_named_233 : decode cX2_named 233 = .ok (.aload_n 0, 1) := dk_42 (dk_at dksX2_named_9 22 rfl rfl)
theorem dX2_named_234 : decode cX2_named 234 = .ok (.invokevirtual 157, 3) := dk_182 0 157 (dk_at dksX2_named_10 0 rfl rfl)
theorem dX2_named_237 : decode cX2_named 237 = .ok (.astore 8, 2) := dk_58 8 (dk_at dksX2_named_10 3 rfl rfl)
theorem dX2_named_239 : decode cX2_named 239 = .ok (.aload_n 0, 1) := dk_42 (dk_at dksX2_named_10 5 rfl rfl)
theorem dX2_named_240 : decode cX2_named 240 = .ok (.ldc 177, 2) := dk_18 177 (dk_at dksX2_named_10 6 rfl rfl)
theorem dX2_named_242 : decode cX2_named 242 = .ok (.iconst 0, 1) := dk_3 (dk_at dksX2_named_10 8 rfl rfl)
theorem dX2_named_243 : decode cX2_named 243 = .ok (.bipush 9, 2) := dk_16 9 (dk_at dksX2_named_10 9 rfl rfl)
theorem dX2_named_245 : decode cX2_named 245 = .ok (.invokevirtual 161, 3) := dk_182 0 161 (dk_at dksX2_named_10 11 rfl rfl)
theorem dX2_named_248 : decode cX2_named 248 = .ok (.istore 9, 2) := dk_54 9 (dk_at dksX2_named_10 14 rfl rfl)
theorem dX2_named_250 : decode cX2_named 250 = .ok (.aload_n 0, 1) := dk_42 (dk_at dksX2_named_10 16 rfl rfl)
theorem dX2_named_251 : decode cX2_named 251 = .ok (.getfield 103, 3) := dk_180 0 103 (dk_at dksX2_named_10 17 rfl rfl)
theorem dX2_named_254 : decode cX2_named 254 = .ok (.getfield 174, 3) := dk_180 0 174 (dk_at dksX2_named_10 20 rfl rfl)
theorem dX2_named_257 : decode cX2_named 257 = .ok (.new 178, 3) := dk_187 0 178 (dk_at dksX2_named_11 0 rfl rfl)
theorem dX2_named_260 : decode cX2_named 260 = .ok (.dup, 1) := dk_89 (dk_at dksX2_named_11 3 rfl rfl)
theorem dX2_named_261 : decode cX2_named 261 = .ok (.aload 8, 2) := dk_25 8 (dk_at dksX2_named_11 4 rfl rfl)
theorem dX2_named_263 : decode cX2_named 263 = .ok (.iload 9, 2) := dk_21 9 (dk_at dksX2_named_11 6 rfl rfl)
theorem dX2_named_265 : decode cX2_named 265 = .ok (.aload_n 0, 1) := dk_42 (dk_at dksX2_named_11 8 rfl rfl)
theorem dX2_named_266 : decode cX2_named 266 = .ok (.ldc 180, 2) := dk_18 180 (dk_at dksX2_named_11 9 rfl rfl)
theorem dX2_named_268 : decode cX2_named 268 = .ok (.iconst 0, 1) := dk_3 (dk_at dksX2_named_11 11 rfl rfl)
theorem dX2_named_269 : decode cX2_named 269 = .ok (.bipush 9, 2) := dk_16 9 (dk_at dksX2_named_11 12 rfl rfl)
theorem dX2_named_271 : decode cX2_named 271 = .ok (.invokevirtual 161, 3) := dk_182 0 161 (dk_at dksX2_named_11 14 rfl rfl)
theorem dX2_named_274 : decode cX2_named 274 = .ok (.invokespecial 182, 3) := dk_183 0 182 (dk_at dksX2_named_11 17 rfl rfl)
theorem dX2_named_277 : decode cX2_named 277 = .ok (.invokeinterface 171 2, 5) := by decide +kernel
theorem dX2_named_282 : decode cX2_named 282 = .ok (.pop, 1) := dk_87 (dk_at dksX2_named_12 5 rfl rfl)
theorem dX2_named_283 : decode cX2_named 283 = .ok (.iconst 1, 1) := dk_4 (dk_at dksX2_named_12 6 rfl rfl)
theorem dX2_named_284 : decode cX2_named 284 = .ok (.ireturn, 1) := dk_172 (dk_at dksX2_named_12 7 rfl rfl)
theorem dX2_named_285 : decode cX2_named 285 = .ok (.aload_n 0, 1) := dk_42 (dk_at dksX2_named_12 8 rfl rfl)
theorem dX2_named_286 : decode cX2_named 286 = .ok (.getfield 103, 3) := dk_180 0 103 (dk_at dksX2_named_12 9 rfl rfl)
theorem dX2_named_289 : decode cX2_named 289 = .ok (.getfield 174, 3) := dk_180 0 174 (dk_at dksX2_named_12 12 rfl rfl)
theorem dX2_named_292 : decode cX2_named 292 = .ok (.aload_n 0, 1) := dk_42 (dk_at dksX2_named_12 15 rfl rfl)
theorem dX2_named_293 : decode cX2_named 293 = .ok (.invokevirtual 100, 3) := dk_182 0 100 (dk_at dksX2_named_12 16 rfl rfl)
theorem dX2_named_296 : decode cX2_named 296 = .ok (.invokestatic 185, 3) := dk_184 0 185 (dk_at dksX2_named_12 19 rfl rfl)
theorem dX2_named_299 : decode cX2_named 299 = .ok (.istore 10, 2) := dk_54 10 (dk_at dksX2_named_12 22 rfl rfl)
theorem dX2_named_301 : decode cX2_named 301 = .ok (.iload 10, 2) := dk_21 10 (dk_at dksX2_named_13 0 rfl rfl)
theorem dX2_named_303 : decode cX2_named 303 = .ok (.iconst (-1), 1) := dk_2 (dk_at dksX2_named_13 2 rfl rfl)
theorem dX2_named_304 : decode cX2_named 304 = .ok (.if_icmp .eq 18, 3) := dk_159 0 18 (dk_at dksX2_named_13 3 rfl rfl)
theorem dX2_named_307 : decode cX2_named 307 = .ok (.aload_n 0, 1) := dk_42 (dk_at dksX2_named_13 6 rfl rfl)
theorem dX2_named_308 : decode cX2_named 308 = .ok (.getfield 103, 3) := dk_180 0 103 (dk_at dksX2_named_13 7 rfl rfl)
theorem dX2_named_311 : decode cX2_named 311 = .ok (.getfield 190, 3) := dk_180 0 190 (dk_at dksX2_named_13 10 rfl rfl)
theorem dX2_named_314 : decode cX2_named 314 = .ok (.iload 10, 2) := dk_21 10 (dk_at dksX2_named_13 13 rfl rfl)
theorem dX2_named_316 : decode cX2_named 316 = .ok (.invokestatic 192, 3) := dk_184 0 192 (dk_at dksX2_named_13 15 rfl rfl)
theorem dX2_named_319 : decode cX2_named 319 = .ok (.ifCond .eq 13, 3) := dk_153 0 13 (dk_at dksX2_named_13 18 rfl rfl)
theorem dX2_named_322 : decode cX2_named 322 = .ok (.aload_n 0, 1) := dk_42 (dk_at dksX2_named_13 21 rfl rfl)
theorem dX2_named_323 : decode cX2_named 323 = .ok (.iconst 3, 1) := dk_6 (dk_at dksX2_named_13 22 rfl rfl)
theorem dX2_named_324 : decode cX2_named 324 = .ok (.aload_n 0, 1) := dk_42 (dk_at dksX2_named_13 23 rfl rfl)
theorem dX2_named_325 : decode cX2_named 325 = .ok (.getfield 61, 3) := dk_180 0 61 (dk_at dksX2_named_14 0 rfl rfl)
theorem dX2_named_328 : decode cX2_named 328 = .ok (.invokevirtual 47, 3) := dk_182 0 47 (dk_at dksX2_named_14 3 rfl rfl)
theorem dX2_named_331 : decode cX2_named 331 = .ok (.athrow, 1) := dk_191 (dk_at dksX2_named_14 6 rfl rfl)
theorem dX2_named_332 : decode cX2_named 332 = .ok (.aload_n 0, 1) := dk_42 (dk_at dksX2_named_14 7 rfl rfl)
theorem dX2_named_333 : decode cX2_named 333 = .ok (.getfield 103, 3) := dk_180 0 103 (dk_at dksX2_named_14 8 rfl rfl)
theorem dX2_named_336 : decode cX2_named 336 = .ok (.dup, 1) := dk_89 (dk_at dksX2_named_14 11 rfl rfl)
theorem dX2_named_337 : decode cX2_named 337 = .ok (.getfield 190, 3) := dk_180 0 190 (dk_at dksX2_named_14 12 rfl rfl)
theorem dX2_named_340 : decode cX2_named 340 = .ok (.iconst 1, 1) := dk_4 (dk_at dksX2_named_14 15 rfl rfl)
theorem dX2_named_341 : decode cX2_named 341 = .ok (.iload 10, 2) := dk_21 10 (dk_at dksX2_named_14 16 rfl rfl)
theorem dX2_named_343 : decode cX2_named 343 = .ok (.ishl, 1) := dk_120 (dk_at dksX2_named_14 18 rfl rfl)
theorem dX2_named_344 : decode cX2_named 344 = .ok (.ior, 1) := dk_128 (dk_at dksX2_named_14 19 rfl rfl)
theorem dX2_named_345 : decode cX2_named 345 = .ok (.putfield 190, 3) := dk_181 0 190 (dk_at dksX2_named_14 20 rfl rfl)
theorem dX2_named_348 : decode cX2_named 348 = .ok (.iconst 1, 1) := dk_4 (dk_at dksX2_named_14 23 rfl rfl)
theorem dX2_named_349 : decode cX2_named 349 = .ok (.ireturn, 1) := dk_172 (dk_at dksX2_named_15 0 rfl rfl)
theorem dX2_named_350 : decode cX2_named 350 = .ok (.iconst 0, 1) := dk_3 (dk_at dksX2_named_15 1 rfl rfl)
theorem dX2_named_351 : decode cX2_named 351 = .ok (.ireturn, 1) := dk_172 (dk_at dksX2_named_15 2 rfl rfl)
abbrev cX2_fresh : ByteArray := prog_16_method_13_code
def yX2_fresh : MethodName := ⟨RX2, "fresh", "()Ljava/lang/String;"⟩
def dkwX2_fresh_1 : List UInt8 := [182, 0, 47, 191, 43, 176]
abbrev dktX2_fresh_1 : List UInt8 := dkwX2_fresh_1 ++ []
def dkwX2_fresh_0 : List UInt8 := [42, 182, 0, 100, 76, 42, 180, 0, 103, 43, 182, 0, 107, 153, 0, 13, 42, 6, 42, 180, 0, 61]
abbrev dktX2_fresh_0 : List UInt8 := dkwX2_fresh_0 ++ dktX2_fresh_1
theorem dksX2_fresh_0 : cX2_fresh.data.toList.drop 0 = dktX2_fresh_0 := by decide +kernel
theorem dksX2_fresh_1 : cX2_fresh.data.toList.drop 22 = dktX2_fresh_1 := dk_seg dksX2_fresh_0 22 rfl rfl
theorem dX2_fresh_0 : decode cX2_fresh 0 = .ok (.aload_n 0, 1) := dk_42 (dk_at dksX2_fresh_0 0 rfl rfl)
theorem dX2_fresh_1 : decode cX2_fresh 1 = .ok (.invokevirtual 100, 3) := dk_182 0 100 (dk_at dksX2_fresh_0 1 rfl rfl)
theorem dX2_fresh_4 : decode cX2_fresh 4 = .ok (.astore_n 1, 1) := dk_76 (dk_at dksX2_fresh_0 4 rfl rfl)
theorem dX2_fresh_5 : decode cX2_fresh 5 = .ok (.aload_n 0, 1) := dk_42 (dk_at dksX2_fresh_0 5 rfl rfl)
theorem dX2_fresh_6 : decode cX2_fresh 6 = .ok (.getfield 103, 3) := dk_180 0 103 (dk_at dksX2_fresh_0 6 rfl rfl)
theorem dX2_fresh_9 : decode cX2_fresh 9 = .ok (.aload_n 1, 1) := dk_43 (dk_at dksX2_fresh_0 9 rfl rfl)
theorem dX2_fresh_10 : decode cX2_fresh 10 = .ok (.invokevirtual 107, 3) := dk_182 0 107 (dk_at dksX2_fresh_0 10 rfl rfl)
theorem dX2_fresh_13 : decode cX2_fresh 13 = .ok (.ifCond .eq 13, 3) := dk_153 0 13 (dk_at dksX2_fresh_0 13 rfl rfl)
theorem dX2_fresh_16 : decode cX2_fresh 16 = .ok (.aload_n 0, 1) := dk_42 (dk_at dksX2_fresh_0 16 rfl rfl)
theorem dX2_fresh_17 : decode cX2_fresh 17 = .ok (.iconst 3, 1) := dk_6 (dk_at dksX2_fresh_0 17 rfl rfl)
theorem dX2_fresh_18 : decode cX2_fresh 18 = .ok (.aload_n 0, 1) := dk_42 (dk_at dksX2_fresh_0 18 rfl rfl)
theorem dX2_fresh_19 : decode cX2_fresh 19 = .ok (.getfield 61, 3) := dk_180 0 61 (dk_at dksX2_fresh_0 19 rfl rfl)
theorem dX2_fresh_22 : decode cX2_fresh 22 = .ok (.invokevirtual 47, 3) := dk_182 0 47 (dk_at dksX2_fresh_1 0 rfl rfl)
theorem dX2_fresh_25 : decode cX2_fresh 25 = .ok (.athrow, 1) := dk_191 (dk_at dksX2_fresh_1 3 rfl rfl)
theorem dX2_fresh_26 : decode cX2_fresh 26 = .ok (.aload_n 1, 1) := dk_43 (dk_at dksX2_fresh_1 4 rfl rfl)
theorem dX2_fresh_27 : decode cX2_fresh 27 = .ok (.areturn, 1) := dk_176 (dk_at dksX2_fresh_1 5 rfl rfl)
abbrev cX2_name : ByteArray := prog_16_method_10_code
def yX2_name : MethodName := ⟨RX2, "name", "()Ljava/lang/String;"⟩
def dkwX2_name_2 : List UInt8 := [182, 0, 47, 191, 43, 176]
abbrev dktX2_name_2 : List UInt8 := dkwX2_name_2 ++ []
def dkwX2_name_1 : List UInt8 := [182, 0, 47, 191, 43, 182, 0, 86, 16, 6, 164, 0, 16, 42, 4, 42, 180, 0, 61, 16, 6, 96]
abbrev dktX2_name_1 : List UInt8 := dkwX2_name_1 ++ dktX2_name_2
def dkwX2_name_0 : List UInt8 := [42, 182, 0, 70, 76, 43, 178, 0, 78, 184, 0, 82, 2, 159, 0, 13, 42, 4, 42, 180, 0, 61]
abbrev dktX2_name_0 : List UInt8 := dkwX2_name_0 ++ dktX2_name_1
theorem dksX2_name_0 : cX2_name.data.toList.drop 0 = dktX2_name_0 := by decide +kernel
theorem dksX2_name_1 : cX2_name.data.toList.drop 22 = dktX2_name_1 := dk_seg dksX2_name_0 22 rfl rfl
theorem dksX2_name_2 : cX2_name.data.toList.drop 44 = dktX2_name_2 := dk_seg dksX2_name_1 22 rfl rfl
theorem dX2_name_0 : decode cX2_name 0 = .ok (.aload_n 0, 1) := dk_42 (dk_at dksX2_name_0 0 rfl rfl)
theorem dX2_name_1 : decode cX2_name 1 = .ok (.invokevirtual 70, 3) := dk_182 0 70 (dk_at dksX2_name_0 1 rfl rfl)
theorem dX2_name_4 : decode cX2_name 4 = .ok (.astore_n 1, 1) := dk_76 (dk_at dksX2_name_0 4 rfl rfl)
theorem dX2_name_5 : decode cX2_name 5 = .ok (.aload_n 1, 1) := dk_43 (dk_at dksX2_name_0 5 rfl rfl)
theorem dX2_name_6 : decode cX2_name 6 = .ok (.getstatic 78, 3) := dk_178 0 78 (dk_at dksX2_name_0 6 rfl rfl)
theorem dX2_name_9 : decode cX2_name 9 = .ok (.invokestatic 82, 3) := dk_184 0 82 (dk_at dksX2_name_0 9 rfl rfl)
theorem dX2_name_12 : decode cX2_name 12 = .ok (.iconst (-1), 1) := dk_2 (dk_at dksX2_name_0 12 rfl rfl)
theorem dX2_name_13 : decode cX2_name 13 = .ok (.if_icmp .eq 13, 3) := dk_159 0 13 (dk_at dksX2_name_0 13 rfl rfl)
theorem dX2_name_16 : decode cX2_name 16 = .ok (.aload_n 0, 1) := dk_42 (dk_at dksX2_name_0 16 rfl rfl)
theorem dX2_name_17 : decode cX2_name 17 = .ok (.iconst 1, 1) := dk_4 (dk_at dksX2_name_0 17 rfl rfl)
theorem dX2_name_18 : decode cX2_name 18 = .ok (.aload_n 0, 1) := dk_42 (dk_at dksX2_name_0 18 rfl rfl)
theorem dX2_name_19 : decode cX2_name 19 = .ok (.getfield 61, 3) := dk_180 0 61 (dk_at dksX2_name_0 19 rfl rfl)
theorem dX2_name_22 : decode cX2_name 22 = .ok (.invokevirtual 47, 3) := dk_182 0 47 (dk_at dksX2_name_1 0 rfl rfl)
theorem dX2_name_25 : decode cX2_name 25 = .ok (.athrow, 1) := dk_191 (dk_at dksX2_name_1 3 rfl rfl)
theorem dX2_name_26 : decode cX2_name 26 = .ok (.aload_n 1, 1) := dk_43 (dk_at dksX2_name_1 4 rfl rfl)
theorem dX2_name_27 : decode cX2_name 27 = .ok (.invokevirtual 86, 3) := dk_182 0 86 (dk_at dksX2_name_1 5 rfl rfl)
theorem dX2_name_30 : decode cX2_name 30 = .ok (.bipush 6, 2) := dk_16 6 (dk_at dksX2_name_1 8 rfl rfl)
theorem dX2_name_32 : decode cX2_name 32 = .ok (.if_icmp .le 16, 3) := dk_164 0 16 (dk_at dksX2_name_1 10 rfl rfl)
theorem dX2_name_35 : decode cX2_name 35 = .ok (.aload_n 0, 1) := dk_42 (dk_at dksX2_name_1 13 rfl rfl)
theorem dX2_name_36 : decode cX2_name 36 = .ok (.iconst 1, 1) := dk_4 (dk_at dksX2_name_1 14 rfl rfl)
theorem dX2_name_37 : decode cX2_name 37 = .ok (.aload_n 0, 1) := dk_42 (dk_at dksX2_name_1 15 rfl rfl)
theorem dX2_name_38 : decode cX2_name 38 = .ok (.getfield 61, 3) := dk_180 0 61 (dk_at dksX2_name_1 16 rfl rfl)
theorem dX2_name_41 : decode cX2_name 41 = .ok (.bipush 6, 2) := dk_16 6 (dk_at dksX2_name_1 19 rfl rfl)
theorem dX2_name_43 : decode cX2_name 43 = .ok (.iadd, 1) := dk_96 (dk_at dksX2_name_1 21 rfl rfl)
theorem dX2_name_44 : decode cX2_name 44 = .ok (.invokevirtual 47, 3) := dk_182 0 47 (dk_at dksX2_name_2 0 rfl rfl)
theorem dX2_name_47 : decode cX2_name 47 = .ok (.athrow, 1) := dk_191 (dk_at dksX2_name_2 3 rfl rfl)
theorem dX2_name_48 : decode cX2_name 48 = .ok (.aload_n 1, 1) := dk_43 (dk_at dksX2_name_2 4 rfl rfl)
theorem dX2_name_49 : decode cX2_name 49 = .ok (.areturn, 1) := dk_176 (dk_at dksX2_name_2 5 rfl rfl)
abbrev cX2_number_2 : ByteArray := prog_16_method_12_code
def yX2_number_2 : MethodName := ⟨RX2, "number", "(Ljava/lang/String;II)I"⟩
def dkwX2_number_2_0 : List UInt8 := [42, 43, 182, 0, 93, 42, 28, 29, 182, 0, 96, 172]
abbrev dktX2_number_2_0 : List UInt8 := dkwX2_number_2_0 ++ []
theorem dksX2_number_2_0 : cX2_number_2.data.toList.drop 0 = dktX2_number_2_0 := by decide +kernel
theorem dX2_number_2_0 : decode cX2_number_2 0 = .ok (.aload_n 0, 1) := dk_42 (dk_at dksX2_number_2_0 0 rfl rfl)
theorem dX2_number_2_1 : decode cX2_number_2 1 = .ok (.aload_n 1, 1) := dk_43 (dk_at dksX2_number_2_0 1 rfl rfl)
theorem dX2_number_2_2 : decode cX2_number_2 2 = .ok (.invokevirtual 93, 3) := dk_182 0 93 (dk_at dksX2_number_2_0 2 rfl rfl)
theorem dX2_number_2_5 : decode cX2_number_2 5 = .ok (.aload_n 0, 1) := dk_42 (dk_at dksX2_number_2_0 5 rfl rfl)
theorem dX2_number_2_6 : decode cX2_number_2 6 = .ok (.iload_n 2, 1) := dk_28 (dk_at dksX2_number_2_0 6 rfl rfl)
theorem dX2_number_2_7 : decode cX2_number_2 7 = .ok (.iload_n 3, 1) := dk_29 (dk_at dksX2_number_2_0 7 rfl rfl)
theorem dX2_number_2_8 : decode cX2_number_2 8 = .ok (.invokevirtual 96, 3) := dk_182 0 96 (dk_at dksX2_number_2_0 8 rfl rfl)
theorem dX2_number_2_11 : decode cX2_number_2 11 = .ok (.ireturn, 1) := dk_172 (dk_at dksX2_number_2_0 11 rfl rfl)
abbrev cX2_more : ByteArray := prog_16_method_18_code
def yX2_more : MethodName := ⟨RX2, "more", "(Ljava/lang/String;I)V"⟩
def dkwX2_more_10 : List UInt8 := [182, 0, 96, 181, 0, 227, 167, 0, 10, 42, 4, 28, 182, 0, 47, 191, 177]
abbrev dktX2_more_10 : List UInt8 := dkwX2_more_10 ++ []
def dkwX2_more_9 : List UInt8 := [180, 0, 103, 180, 0, 225, 28, 182, 0, 221, 181, 0, 225, 167, 0, 27, 42, 180, 0, 103, 42, 3, 16, 100]
abbrev dktX2_more_9 : List UInt8 := dkwX2_more_9 ++ dktX2_more_10
def dkwX2_more_8 : List UInt8 := [180, 0, 103, 180, 0, 218, 28, 182, 0, 221, 181, 0, 218, 167, 0, 49, 42, 180, 0, 103, 42, 42]
abbrev dktX2_more_8 : List UInt8 := dkwX2_more_8 ++ dktX2_more_9
def dkwX2_more_7 : List UInt8 := [181, 0, 196, 42, 180, 0, 103, 42, 182, 0, 214, 181, 0, 211, 167, 0, 71, 42, 180, 0, 103, 42, 42]
abbrev dktX2_more_7 : List UInt8 := dkwX2_more_7 ++ dktX2_more_8
def dkwX2_more_6 : List UInt8 := [42, 42, 180, 0, 103, 180, 0, 211, 198, 0, 7, 4, 167, 0, 4, 3, 28, 182, 0, 128, 42, 16, 31]
abbrev dktX2_more_6 : List UInt8 := dkwX2_more_6 ++ dktX2_more_7
def dkwX2_more_5 : List UInt8 := [170, 0, 0, 0, 130, 0, 0, 0, 0, 0, 0, 0, 3, 0, 0, 0, 29, 0, 0, 0, 69, 0, 0, 0, 91, 0, 0, 0, 113]
abbrev dktX2_more_5 : List UInt8 := dkwX2_more_5 ++ dktX2_more_6
def dkwX2_more_4 : List UInt8 := [182, 0, 74, 153, 0, 6, 6, 54, 4, 21, 4]
abbrev dktX2_more_4 : List UInt8 := dkwX2_more_4 ++ dktX2_more_5
def dkwX2_more_3 : List UInt8 := [4, 54, 4, 167, 0, 30, 45, 18, 207, 182, 0, 74, 153, 0, 21, 5, 54, 4, 167, 0, 15, 45, 18, 209]
abbrev dktX2_more_3 : List UInt8 := dkwX2_more_3 ++ dktX2_more_4
def dkwX2_more_2 : List UInt8 := [45, 18, 203, 182, 0, 74, 153, 0, 51, 3, 54, 4, 167, 0, 45, 45, 18, 205, 182, 0, 74, 153, 0, 36]
abbrev dktX2_more_2 : List UInt8 := dkwX2_more_2 ++ dktX2_more_3
def dkwX2_more_1 : List UInt8 := [171, 0, 0, 0, 0, 0, 100, 0, 0, 0, 4, 0, 55, 160, 206, 0, 0, 0, 58, 5, 178, 169, 52, 0, 0, 0, 88, 6, 144, 92, 204, 0, 0, 0, 43, 6, 153, 143, 150, 0, 0, 0, 73]
abbrev dktX2_more_1 : List UInt8 := dkwX2_more_1 ++ dktX2_more_2
def dkwX2_more_0 : List UInt8 := [43, 78, 2, 54, 4, 45, 182, 0, 140]
abbrev dktX2_more_0 : List UInt8 := dkwX2_more_0 ++ dktX2_more_1
theorem dksX2_more_0 : cX2_more.data.toList.drop 0 = dktX2_more_0 := by decide +kernel
theorem dksX2_more_1 : cX2_more.data.toList.drop 9 = dktX2_more_1 := dk_seg dksX2_more_0 9 rfl rfl
theorem dksX2_more_2 : cX2_more.data.toList.drop 52 = dktX2_more_2 := dk_seg dksX2_more_1 43 rfl rfl
theorem dksX2_more_3 : cX2_more.data.toList.drop 76 = dktX2_more_3 := dk_seg dksX2_more_2 24 rfl rfl
theorem dksX2_more_4 : cX2_more.data.toList.drop 100 = dktX2_more_4 := dk_seg dksX2_more_3 24 rfl rfl
theorem dksX2_more_5 : cX2_more.data.toList.drop 111 = dktX2_more_5 := dk_seg dksX2_more_4 11 rfl rfl
theorem dksX2_more_6 : cX2_more.data.toList.drop 140 = dktX2_more_6 := dk_seg dksX2_more_5 29 rfl rfl
theorem dksX2_more_7 : cX2_more.data.toList.drop 163 = dktX2_more_7 := dk_seg dksX2_more_6 23 rfl rfl
theorem dksX2_more_8 : cX2_more.data.toList.drop 186 = dktX2_more_8 := dk_seg dksX2_more_7 23 rfl rfl
theorem dksX2_more_9 : cX2_more.data.toList.drop 208 = dktX2_more_9 := dk_seg dksX2_more_8 22 rfl rfl
theorem dksX2_more_10 : cX2_more.data.toList.drop 232 = dktX2_more_10 := dk_seg dksX2_more_9 24 rfl rfl
theorem dX2_more_0 : decode cX2_more 0 = .ok (.aload_n 1, 1) := dk_43 (dk_at dksX2_more_0 0 rfl rfl)
theorem dX2_more_1 : decode cX2_more 1 = .ok (.astore_n 3, 1) := dk_78 (dk_at dksX2_more_0 1 rfl rfl)
theorem dX2_more_2 : decode cX2_more 2 = .ok (.iconst (-1), 1) := dk_2 (dk_at dksX2_more_0 2 rfl rfl)
theorem dX2_more_3 : decode cX2_more 3 = .ok (.istore 4, 2) := dk_54 4 (dk_at dksX2_more_0 3 rfl rfl)
theorem dX2_more_5 : decode cX2_more 5 = .ok (.aload_n 3, 1) := dk_45 (dk_at dksX2_more_0 5 rfl rfl)
theorem dX2_more_6 : decode cX2_more 6 = .ok (.invokevirtual 140, 3) := dk_182 0 140 (dk_at dksX2_more_0 6 rfl rfl)
theorem dX2_more_9 : decode cX2_more 9 = .ok (.lookupswitch 100 #[(3645646, 58), (95594804, 88), (110124236, 43), (110727062, 73)], 43) := by decide +kernel
theorem dX2_more_52 : decode cX2_more 52 = .ok (.aload_n 3, 1) := dk_45 (dk_at dksX2_more_2 0 rfl rfl)
theorem dX2_more_53 : decode cX2_more 53 = .ok (.ldc 203, 2) := dk_18 203 (dk_at dksX2_more_2 1 rfl rfl)
theorem dX2_more_55 : decode cX2_more 55 = .ok (.invokevirtual 74, 3) := dk_182 0 74 (dk_at dksX2_more_2 3 rfl rfl)
theorem dX2_more_58 : decode cX2_more 58 = .ok (.ifCond .eq 51, 3) := dk_153 0 51 (dk_at dksX2_more_2 6 rfl rfl)
theorem dX2_more_61 : decode cX2_more 61 = .ok (.iconst 0, 1) := dk_3 (dk_at dksX2_more_2 9 rfl rfl)
theorem dX2_more_62 : decode cX2_more 62 = .ok (.istore 4, 2) := dk_54 4 (dk_at dksX2_more_2 10 rfl rfl)
theorem dX2_more_64 : decode cX2_more 64 = .ok (.goto 45, 3) := dk_167 0 45 (dk_at dksX2_more_2 12 rfl rfl)
theorem dX2_more_67 : decode cX2_more 67 = .ok (.aload_n 3, 1) := dk_45 (dk_at dksX2_more_2 15 rfl rfl)
theorem dX2_more_68 : decode cX2_more 68 = .ok (.ldc 205, 2) := dk_18 205 (dk_at dksX2_more_2 16 rfl rfl)
theorem dX2_more_70 : decode cX2_more 70 = .ok (.invokevirtual 74, 3) := dk_182 0 74 (dk_at dksX2_more_2 18 rfl rfl)
theorem dX2_more_73 : decode cX2_more 73 = .ok (.ifCond .eq 36, 3) := dk_153 0 36 (dk_at dksX2_more_2 21 rfl rfl)
theorem dX2_more_76 : decode cX2_more 76 = .ok (.iconst 1, 1) := dk_4 (dk_at dksX2_more_3 0 rfl rfl)
theorem dX2_more_77 : decode cX2_more 77 = .ok (.istore 4, 2) := dk_54 4 (dk_at dksX2_more_3 1 rfl rfl)
theorem dX2_more_79 : decode cX2_more 79 = .ok (.goto 30, 3) := dk_167 0 30 (dk_at dksX2_more_3 3 rfl rfl)
theorem dX2_more_82 : decode cX2_more 82 = .ok (.aload_n 3, 1) := dk_45 (dk_at dksX2_more_3 6 rfl rfl)
theorem dX2_more_83 : decode cX2_more 83 = .ok (.ldc 207, 2) := dk_18 207 (dk_at dksX2_more_3 7 rfl rfl)
theorem dX2_more_85 : decode cX2_more 85 = .ok (.invokevirtual 74, 3) := dk_182 0 74 (dk_at dksX2_more_3 9 rfl rfl)
theorem dX2_more_88 : decode cX2_more 88 = .ok (.ifCond .eq 21, 3) := dk_153 0 21 (dk_at dksX2_more_3 12 rfl rfl)
theorem dX2_more_91 : decode cX2_more 91 = .ok (.iconst 2, 1) := dk_5 (dk_at dksX2_more_3 15 rfl rfl)
theorem dX2_more_92 : decode cX2_more 92 = .ok (.istore 4, 2) := dk_54 4 (dk_at dksX2_more_3 16 rfl rfl)
theorem dX2_more_94 : decode cX2_more 94 = .ok (.goto 15, 3) := dk_167 0 15 (dk_at dksX2_more_3 18 rfl rfl)
theorem dX2_more_97 : decode cX2_more 97 = .ok (.aload_n 3, 1) := dk_45 (dk_at dksX2_more_3 21 rfl rfl)
theorem dX2_more_98 : decode cX2_more 98 = .ok (.ldc 209, 2) := dk_18 209 (dk_at dksX2_more_3 22 rfl rfl)
theorem dX2_more_100 : decode cX2_more 100 = .ok (.invokevirtual 74, 3) := dk_182 0 74 (dk_at dksX2_more_4 0 rfl rfl)
theorem dX2_more_103 : decode cX2_more 103 = .ok (.ifCond .eq 6, 3) := dk_153 0 6 (dk_at dksX2_more_4 3 rfl rfl)
theorem dX2_more_106 : decode cX2_more 106 = .ok (.iconst 3, 1) := dk_6 (dk_at dksX2_more_4 6 rfl rfl)
theorem dX2_more_107 : decode cX2_more 107 = .ok (.istore 4, 2) := dk_54 4 (dk_at dksX2_more_4 7 rfl rfl)
theorem dX2_more_109 : decode cX2_more 109 = .ok (.iload 4, 2) := dk_21 4 (dk_at dksX2_more_4 9 rfl rfl)
theorem dX2_more_111 : decode cX2_more 111 = .ok (.tableswitch 130 0 3 #[29, 69, 91, 113], 29) := by decide +kernel
theorem dX2_more_140 : decode cX2_more 140 = .ok (.aload_n 0, 1) := dk_42 (dk_at dksX2_more_6 0 rfl rfl)
theorem dX2_more_141 : decode cX2_more 141 = .ok (.aload_n 0, 1) := dk_42 (dk_at dksX2_more_6 1 rfl rfl)
theorem dX2_more_142 : decode cX2_more 142 = .ok (.getfield 103, 3) := dk_180 0 103 (dk_at dksX2_more_6 2 rfl rfl)
theorem dX2_more_145 : decode cX2_more 145 = .ok (.getfield 211, 3) := dk_180 0 211 (dk_at dksX2_more_6 5 rfl rfl)
theorem dX2_more_148 : decode cX2_more 148 = .ok (.ifnull 7, 3) := dk_198 0 7 (dk_at dksX2_more_6 8 rfl rfl)
theorem dX2_more_151 : decode cX2_more 151 = .ok (.iconst 1, 1) := dk_4 (dk_at dksX2_more_6 11 rfl rfl)
theorem dX2_more_152 : decode cX2_more 152 = .ok (.goto 4, 3) := dk_167 0 4 (dk_at dksX2_more_6 12 rfl rfl)
theorem dX2_more_155 : decode cX2_more 155 = .ok (.iconst 0, 1) := dk_3 (dk_at dksX2_more_6 15 rfl rfl)
theorem dX2_more_156 : decode cX2_more 156 = .ok (.iload_n 2, 1) := dk_28 (dk_at dksX2_more_6 16 rfl rfl)
theorem dX2_more_157 : decode cX2_more 157 = .ok (.invokevirtual 128, 3) := dk_182 0 128 (dk_at dksX2_more_6 17 rfl rfl)
theorem dX2_more_160 : decode cX2_more 160 = .ok (.aload_n 0, 1) := dk_42 (dk_at dksX2_more_6 20 rfl rfl)
theorem dX2_more_161 : decode cX2_more 161 = .ok (.bipush 31, 2) := dk_16 31 (dk_at dksX2_more_6 21 rfl rfl)
theorem dX2_more_163 : decode cX2_more 163 = .ok (.putfield 196, 3) := dk_181 0 196 (dk_at dksX2_more_7 0 rfl rfl)
theorem dX2_more_166 : decode cX2_more 166 = .ok (.aload_n 0, 1) := dk_42 (dk_at dksX2_more_7 3 rfl rfl)
theorem dX2_more_167 : decode cX2_more 167 = .ok (.getfield 103, 3) := dk_180 0 103 (dk_at dksX2_more_7 4 rfl rfl)
theorem dX2_more_170 : decode cX2_more 170 = .ok (.aload_n 0, 1) := dk_42 (dk_at dksX2_more_7 7 rfl rfl)
theorem dX2_more_171 : decode cX2_more 171 = .ok (.invokevirtual 214, 3) := dk_182 0 214 (dk_at dksX2_more_7 8 rfl rfl)
theorem dX2_more_174 : decode cX2_more 174 = .ok (.putfield 211, 3) := dk_181 0 211 (dk_at dksX2_more_7 11 rfl rfl)
theorem dX2_more_177 : decode cX2_more 177 = .ok (.goto 71, 3) := dk_167 0 71 (dk_at dksX2_more_7 14 rfl rfl)
theorem dX2_more_180 : decode cX2_more 180 = .ok (.aload_n 0, 1) := dk_42 (dk_at dksX2_more_7 17 rfl rfl)
theorem dX2_more_181 : decode cX2_more 181 = .ok (.getfield 103, 3) := dk_180 0 103 (dk_at dksX2_more_7 18 rfl rfl)
theorem dX2_more_184 : decode cX2_more 184 = .ok (.aload_n 0, 1) := dk_42 (dk_at dksX2_more_7 21 rfl rfl)
theorem dX2_more_185 : decode cX2_more 185 = .ok (.aload_n 0, 1) := dk_42 (dk_at dksX2_more_7 22 rfl rfl)
theorem dX2_more_186 : decode cX2_more 186 = .ok (.getfield 103, 3) := dk_180 0 103 (dk_at dksX2_more_8 0 rfl rfl)
theorem dX2_more_189 : decode cX2_more 189 = .ok (.getfield 218, 3) := dk_180 0 218 (dk_at dksX2_more_8 3 rfl rfl)
theorem dX2_more_192 : decode cX2_more 192 = .ok (.iload_n 2, 1) := dk_28 (dk_at dksX2_more_8 6 rfl rfl)
theorem dX2_more_193 : decode cX2_more 193 = .ok (.invokevirtual 221, 3) := dk_182 0 221 (dk_at dksX2_more_8 7 rfl rfl)
theorem dX2_more_196 : decode cX2_more 196 = .ok (.putfield 218, 3) := dk_181 0 218 (dk_at dksX2_more_8 10 rfl rfl)
theorem dX2_more_199 : decode cX2_more 199 = .ok (.goto 49, 3) := dk_167 0 49 (dk_at dksX2_more_8 13 rfl rfl)
theorem dX2_more_202 : decode cX2_more 202 = .ok (.aload_n 0, 1) := dk_42 (dk_at dksX2_more_8 16 rfl rfl)
theorem dX2_more_203 : decode cX2_more 203 = .ok (.getfield 103, 3) := dk_180 0 103 (dk_at dksX2_more_8 17 rfl rfl)
theorem dX2_more_206 : decode cX2_more 206 = .ok (.aload_n 0, 1) := dk_42 (dk_at dksX2_more_8 20 rfl rfl)
theorem dX2_more_207 : decode cX2_more 207 = .ok (.aload_n 0, 1) := dk_42 (dk_at dksX2_more_8 21 rfl rfl)
theorem dX2_more_208 : decode cX2_more 208 = .ok (.getfield 103, 3) := dk_180 0 103 (dk_at dksX2_more_9 0 rfl rfl)
theorem dX2_more_211 : decode cX2_more 211 = .ok (.getfield 225, 3) := dk_180 0 225 (dk_at dksX2_more_9 3 rfl rfl)
theorem dX2_more_214 : decode cX2_more 214 = .ok (.iload_n 2, 1) := dk_28 (dk_at dksX2_more_9 6 rfl rfl)
theorem dX2_more_215 : decode cX2_more 215 = .ok (.invokevirtual 221, 3) := dk_182 0 221 (dk_at dksX2_more_9 7 rfl rfl)
theorem dX2_more_218 : decode cX2_more 218 = .ok (.putfield 225, 3) := dk_181 0 225 (dk_at dksX2_more_9 10 rfl rfl)
theorem dX2_more_221 : decode cX2_more 221 = .ok (.goto 27, 3) := dk_167 0 27 (dk_at dksX2_more_9 13 rfl rfl)
theorem dX2_more_224 : decode cX2_more 224 = .ok (.aload_n 0, 1) := dk_42 (dk_at dksX2_more_9 16 rfl rfl)
theorem dX2_more_225 : decode cX2_more 225 = .ok (.getfield 103, 3) := dk_180 0 103 (dk_at dksX2_more_9 17 rfl rfl)
theorem dX2_more_228 : decode cX2_more 228 = .ok (.aload_n 0, 1) := dk_42 (dk_at dksX2_more_9 20 rfl rfl)
theorem dX2_more_229 : decode cX2_more 229 = .ok (.iconst 0, 1) := dk_3 (dk_at dksX2_more_9 21 rfl rfl)
theorem dX2_more_230 : decode cX2_more 230 = .ok (.bipush 100, 2) := dk_16 100 (dk_at dksX2_more_9 22 rfl rfl)
theorem dX2_more_232 : decode cX2_more 232 = .ok (.invokevirtual 96, 3) := dk_182 0 96 (dk_at dksX2_more_10 0 rfl rfl)
theorem dX2_more_235 : decode cX2_more 235 = .ok (.putfield 227, 3) := dk_181 0 227 (dk_at dksX2_more_10 3 rfl rfl)
theorem dX2_more_238 : decode cX2_more 238 = .ok (.goto 10, 3) := dk_167 0 10 (dk_at dksX2_more_10 6 rfl rfl)
theorem dX2_more_241 : decode cX2_more 241 = .ok (.aload_n 0, 1) := dk_42 (dk_at dksX2_more_10 9 rfl rfl)
theorem dX2_more_242 : decode cX2_more 242 = .ok (.iconst 1, 1) := dk_4 (dk_at dksX2_more_10 10 rfl rfl)
theorem dX2_more_243 : decode cX2_more 243 = .ok (.iload_n 2, 1) := dk_28 (dk_at dksX2_more_10 11 rfl rfl)
theorem dX2_more_244 : decode cX2_more 244 = .ok (.invokevirtual 47, 3) := dk_182 0 47 (dk_at dksX2_more_10 12 rfl rfl)
theorem dX2_more_247 : decode cX2_more 247 = .ok (.athrow, 1) := dk_191 (dk_at dksX2_more_10 15 rfl rfl)
theorem dX2_more_248 : decode cX2_more 248 = .ok (.return_, 1) := dk_177 (dk_at dksX2_more_10 16 rfl rfl)
abbrev cX2_test : ByteArray := prog_16_method_25_code
def yX2_test : MethodName := ⟨RX2, "test", "()LVerbAtDusk$Test;"⟩
def dkwX2_test_2 : List UInt8 := [167, 255, 232, 43, 176]
abbrev dktX2_test_2 : List UInt8 := dkwX2_test_2 ++ []
def dkwX2_test_1 : List UInt8 := [19, 1, 32, 182, 1, 34, 153, 0, 20, 43, 180, 1, 26, 42, 182, 1, 29, 185, 0, 171, 2, 0, 87]
abbrev dktX2_test_1 : List UInt8 := dkwX2_test_1 ++ dktX2_test_2
def dkwX2_test_0 : List UInt8 := [187, 1, 21, 89, 3, 183, 1, 23, 76, 43, 180, 1, 26, 42, 182, 1, 29, 185, 0, 171, 2, 0, 87, 42]
abbrev dktX2_test_0 : List UInt8 := dkwX2_test_0 ++ dktX2_test_1
theorem dksX2_test_0 : cX2_test.data.toList.drop 0 = dktX2_test_0 := by decide +kernel
theorem dksX2_test_1 : cX2_test.data.toList.drop 24 = dktX2_test_1 := dk_seg dksX2_test_0 24 rfl rfl
theorem dksX2_test_2 : cX2_test.data.toList.drop 47 = dktX2_test_2 := dk_seg dksX2_test_1 23 rfl rfl
theorem dX2_test_0 : decode cX2_test 0 = .ok (.new 277, 3) := dk_187 1 21 (dk_at dksX2_test_0 0 rfl rfl)
theorem dX2_test_3 : decode cX2_test 3 = .ok (.dup, 1) := dk_89 (dk_at dksX2_test_0 3 rfl rfl)
theorem dX2_test_4 : decode cX2_test 4 = .ok (.iconst 0, 1) := dk_3 (dk_at dksX2_test_0 4 rfl rfl)
theorem dX2_test_5 : decode cX2_test 5 = .ok (.invokespecial 279, 3) := dk_183 1 23 (dk_at dksX2_test_0 5 rfl rfl)
theorem dX2_test_8 : decode cX2_test 8 = .ok (.astore_n 1, 1) := dk_76 (dk_at dksX2_test_0 8 rfl rfl)
theorem dX2_test_9 : decode cX2_test 9 = .ok (.aload_n 1, 1) := dk_43 (dk_at dksX2_test_0 9 rfl rfl)
theorem dX2_test_10 : decode cX2_test 10 = .ok (.getfield 282, 3) := dk_180 1 26 (dk_at dksX2_test_0 10 rfl rfl)
theorem dX2_test_13 : decode cX2_test 13 = .ok (.aload_n 0, 1) := dk_42 (dk_at dksX2_test_0 13 rfl rfl)
theorem dX2_test_14 : decode cX2_test 14 = .ok (.invokevirtual 285, 3) := dk_182 1 29 (dk_at dksX2_test_0 14 rfl rfl)
theorem dX2_test_17 : decode cX2_test 17 = .ok (.invokeinterface 171 2, 5) := by decide +kernel
theorem dX2_test_22 : decode cX2_test 22 = .ok (.pop, 1) := dk_87 (dk_at dksX2_test_0 22 rfl rfl)
theorem dX2_test_23 : decode cX2_test 23 = .ok (.aload_n 0, 1) := dk_42 (dk_at dksX2_test_0 23 rfl rfl)
theorem dX2_test_24 : decode cX2_test 24 = .ok (.ldc_w 288, 3) := dk_19 1 32 (dk_at dksX2_test_1 0 rfl rfl)
theorem dX2_test_27 : decode cX2_test 27 = .ok (.invokevirtual 290, 3) := dk_182 1 34 (dk_at dksX2_test_1 3 rfl rfl)
theorem dX2_test_30 : decode cX2_test 30 = .ok (.ifCond .eq 20, 3) := dk_153 0 20 (dk_at dksX2_test_1 6 rfl rfl)
theorem dX2_test_33 : decode cX2_test 33 = .ok (.aload_n 1, 1) := dk_43 (dk_at dksX2_test_1 9 rfl rfl)
theorem dX2_test_34 : decode cX2_test 34 = .ok (.getfield 282, 3) := dk_180 1 26 (dk_at dksX2_test_1 10 rfl rfl)
theorem dX2_test_37 : decode cX2_test 37 = .ok (.aload_n 0, 1) := dk_42 (dk_at dksX2_test_1 13 rfl rfl)
theorem dX2_test_38 : decode cX2_test 38 = .ok (.invokevirtual 285, 3) := dk_182 1 29 (dk_at dksX2_test_1 14 rfl rfl)
theorem dX2_test_41 : decode cX2_test 41 = .ok (.invokeinterface 171 2, 5) := by decide +kernel
theorem dX2_test_46 : decode cX2_test 46 = .ok (.pop, 1) := dk_87 (dk_at dksX2_test_1 22 rfl rfl)
theorem dX2_test_47 : decode cX2_test 47 = .ok (.goto (-24), 3) := dk_167 255 232 (dk_at dksX2_test_2 0 rfl rfl)
theorem dX2_test_50 : decode cX2_test 50 = .ok (.aload_n 1, 1) := dk_43 (dk_at dksX2_test_2 3 rfl rfl)
theorem dX2_test_51 : decode cX2_test 51 = .ok (.areturn, 1) := dk_176 (dk_at dksX2_test_2 4 rfl rfl)
abbrev cX2_both : ByteArray := prog_16_method_26_code
def yX2_both : MethodName := ⟨RX2, "both", "()LVerbAtDusk$Test;"⟩
def dkwX2_both_2 : List UInt8 := [167, 255, 232, 43, 176]
abbrev dktX2_both_2 : List UInt8 := dkwX2_both_2 ++ []
def dkwX2_both_1 : List UInt8 := [19, 1, 40, 182, 1, 34, 153, 0, 20, 43, 180, 1, 26, 42, 182, 1, 37, 185, 0, 171, 2, 0, 87]
abbrev dktX2_both_1 : List UInt8 := dkwX2_both_1 ++ dktX2_both_2
def dkwX2_both_0 : List UInt8 := [187, 1, 21, 89, 4, 183, 1, 23, 76, 43, 180, 1, 26, 42, 182, 1, 37, 185, 0, 171, 2, 0, 87, 42]
abbrev dktX2_both_0 : List UInt8 := dkwX2_both_0 ++ dktX2_both_1
theorem dksX2_both_0 : cX2_both.data.toList.drop 0 = dktX2_both_0 := by decide +kernel
theorem dksX2_both_1 : cX2_both.data.toList.drop 24 = dktX2_both_1 := dk_seg dksX2_both_0 24 rfl rfl
theorem dksX2_both_2 : cX2_both.data.toList.drop 47 = dktX2_both_2 := dk_seg dksX2_both_1 23 rfl rfl
theorem dX2_both_0 : decode cX2_both 0 = .ok (.new 277, 3) := dk_187 1 21 (dk_at dksX2_both_0 0 rfl rfl)
theorem dX2_both_3 : decode cX2_both 3 = .ok (.dup, 1) := dk_89 (dk_at dksX2_both_0 3 rfl rfl)
theorem dX2_both_4 : decode cX2_both 4 = .ok (.iconst 1, 1) := dk_4 (dk_at dksX2_both_0 4 rfl rfl)
theorem dX2_both_5 : decode cX2_both 5 = .ok (.invokespecial 279, 3) := dk_183 1 23 (dk_at dksX2_both_0 5 rfl rfl)
theorem dX2_both_8 : decode cX2_both 8 = .ok (.astore_n 1, 1) := dk_76 (dk_at dksX2_both_0 8 rfl rfl)
theorem dX2_both_9 : decode cX2_both 9 = .ok (.aload_n 1, 1) := dk_43 (dk_at dksX2_both_0 9 rfl rfl)
theorem dX2_both_10 : decode cX2_both 10 = .ok (.getfield 282, 3) := dk_180 1 26 (dk_at dksX2_both_0 10 rfl rfl)
theorem dX2_both_13 : decode cX2_both 13 = .ok (.aload_n 0, 1) := dk_42 (dk_at dksX2_both_0 13 rfl rfl)
theorem dX2_both_14 : decode cX2_both 14 = .ok (.invokevirtual 293, 3) := dk_182 1 37 (dk_at dksX2_both_0 14 rfl rfl)
theorem dX2_both_17 : decode cX2_both 17 = .ok (.invokeinterface 171 2, 5) := by decide +kernel
theorem dX2_both_22 : decode cX2_both 22 = .ok (.pop, 1) := dk_87 (dk_at dksX2_both_0 22 rfl rfl)
theorem dX2_both_23 : decode cX2_both 23 = .ok (.aload_n 0, 1) := dk_42 (dk_at dksX2_both_0 23 rfl rfl)
theorem dX2_both_24 : decode cX2_both 24 = .ok (.ldc_w 296, 3) := dk_19 1 40 (dk_at dksX2_both_1 0 rfl rfl)
theorem dX2_both_27 : decode cX2_both 27 = .ok (.invokevirtual 290, 3) := dk_182 1 34 (dk_at dksX2_both_1 3 rfl rfl)
theorem dX2_both_30 : decode cX2_both 30 = .ok (.ifCond .eq 20, 3) := dk_153 0 20 (dk_at dksX2_both_1 6 rfl rfl)
theorem dX2_both_33 : decode cX2_both 33 = .ok (.aload_n 1, 1) := dk_43 (dk_at dksX2_both_1 9 rfl rfl)
theorem dX2_both_34 : decode cX2_both 34 = .ok (.getfield 282, 3) := dk_180 1 26 (dk_at dksX2_both_1 10 rfl rfl)
theorem dX2_both_37 : decode cX2_both 37 = .ok (.aload_n 0, 1) := dk_42 (dk_at dksX2_both_1 13 rfl rfl)
theorem dX2_both_38 : decode cX2_both 38 = .ok (.invokevirtual 293, 3) := dk_182 1 37 (dk_at dksX2_both_1 14 rfl rfl)
theorem dX2_both_41 : decode cX2_both 41 = .ok (.invokeinterface 171 2, 5) := by decide +kernel
theorem dX2_both_46 : decode cX2_both 46 = .ok (.pop, 1) := dk_87 (dk_at dksX2_both_1 22 rfl rfl)
theorem dX2_both_47 : decode cX2_both 47 = .ok (.goto (-24), 3) := dk_167 255 232 (dk_at dksX2_both_2 0 rfl rfl)
theorem dX2_both_50 : decode cX2_both 50 = .ok (.aload_n 1, 1) := dk_43 (dk_at dksX2_both_2 3 rfl rfl)
theorem dX2_both_51 : decode cX2_both 51 = .ok (.areturn, 1) := dk_176 (dk_at dksX2_both_2 4 rfl rfl)
abbrev cX2_fact : ByteArray := prog_16_method_27_code
def yX2_fact : MethodName := ⟨RX2, "fact", "()LVerbAtDusk$Test;"⟩
def dkwX2_fact_7 : List UInt8 := [183, 1, 56, 176]
abbrev dktX2_fact_7 : List UInt8 := dkwX2_fact_7 ++ []
def dkwX2_fact_6 : List UInt8 := [182, 0, 47, 191, 42, 89, 180, 0, 36, 4, 96, 181, 0, 36, 187, 1, 54, 89, 43, 28, 42, 182, 0, 199]
abbrev dktX2_fact_6 : List UInt8 := dkwX2_fact_6 ++ dktX2_fact_7
def dkwX2_fact_5 : List UInt8 := [28, 16, 60, 159, 0, 25, 28, 16, 62, 159, 0, 19, 28, 16, 61, 159, 0, 13, 42, 4, 42, 180, 0, 36]
abbrev dktX2_fact_5 : List UInt8 := dkwX2_fact_5 ++ dktX2_fact_6
def dkwX2_fact_4 : List UInt8 := [182, 1, 34, 153, 0, 11, 187, 1, 51, 89, 183, 1, 53, 176, 42, 182, 0, 199, 76, 42, 182, 0, 43, 61]
abbrev dktX2_fact_4 : List UInt8 := dkwX2_fact_4 ++ dktX2_fact_5
def dkwX2_fact_3 : List UInt8 := [42, 182, 1, 37, 183, 1, 46, 76, 42, 89, 180, 0, 114, 4, 100, 181, 0, 114, 43, 176, 42, 19, 1, 49]
abbrev dktX2_fact_3 : List UInt8 := dkwX2_fact_3 ++ dktX2_fact_4
def dkwX2_fact_2 : List UInt8 := [43, 176, 42, 19, 1, 42, 182, 1, 34, 153, 0, 35, 42, 42, 180, 0, 61, 182, 0, 243, 187, 1, 44, 89]
abbrev dktX2_fact_2 : List UInt8 := dkwX2_fact_2 ++ dktX2_fact_3
def dkwX2_fact_1 : List UInt8 := [181, 0, 36, 42, 182, 0, 214, 76, 42, 16, 93, 182, 0, 121, 42, 89, 180, 0, 114, 4, 100, 181, 0, 114]
abbrev dktX2_fact_1 : List UInt8 := dkwX2_fact_1 ++ dktX2_fact_2
def dkwX2_fact_0 : List UInt8 := [42, 182, 0, 43, 16, 91, 160, 0, 44, 42, 42, 180, 0, 36, 182, 0, 243, 42, 89, 180, 0, 36, 4, 96]
abbrev dktX2_fact_0 : List UInt8 := dkwX2_fact_0 ++ dktX2_fact_1
theorem dksX2_fact_0 : cX2_fact.data.toList.drop 0 = dktX2_fact_0 := by decide +kernel
theorem dksX2_fact_1 : cX2_fact.data.toList.drop 24 = dktX2_fact_1 := dk_seg dksX2_fact_0 24 rfl rfl
theorem dksX2_fact_2 : cX2_fact.data.toList.drop 48 = dktX2_fact_2 := dk_seg dksX2_fact_1 24 rfl rfl
theorem dksX2_fact_3 : cX2_fact.data.toList.drop 72 = dktX2_fact_3 := dk_seg dksX2_fact_2 24 rfl rfl
theorem dksX2_fact_4 : cX2_fact.data.toList.drop 96 = dktX2_fact_4 := dk_seg dksX2_fact_3 24 rfl rfl
theorem dksX2_fact_5 : cX2_fact.data.toList.drop 120 = dktX2_fact_5 := dk_seg dksX2_fact_4 24 rfl rfl
theorem dksX2_fact_6 : cX2_fact.data.toList.drop 144 = dktX2_fact_6 := dk_seg dksX2_fact_5 24 rfl rfl
theorem dksX2_fact_7 : cX2_fact.data.toList.drop 168 = dktX2_fact_7 := dk_seg dksX2_fact_6 24 rfl rfl
theorem dX2_fact_0 : decode cX2_fact 0 = .ok (.aload_n 0, 1) := dk_42 (dk_at dksX2_fact_0 0 rfl rfl)
theorem dX2_fact_1 : decode cX2_fact 1 = .ok (.invokevirtual 43, 3) := dk_182 0 43 (dk_at dksX2_fact_0 1 rfl rfl)
theorem dX2_fact_4 : decode cX2_fact 4 = .ok (.bipush 91, 2) := dk_16 91 (dk_at dksX2_fact_0 4 rfl rfl)
theorem dX2_fact_6 : decode cX2_fact 6 = .ok (.if_icmp .ne 44, 3) := dk_160 0 44 (dk_at dksX2_fact_0 6 rfl rfl)
theorem dX2_fact_9 : decode cX2_fact 9 = .ok (.aload_n 0, 1) := dk_42 (dk_at dksX2_fact_0 9 rfl rfl)
theorem dX2_fact_10 : decode cX2_fact 10 = .ok (.aload_n 0, 1) := dk_42 (dk_at dksX2_fact_0 10 rfl rfl)
theorem dX2_fact_11 : decode cX2_fact 11 = .ok (.getfield 36, 3) := dk_180 0 36 (dk_at dksX2_fact_0 11 rfl rfl)
theorem dX2_fact_14 : decode cX2_fact 14 = .ok (.invokevirtual 243, 3) := dk_182 0 243 (dk_at dksX2_fact_0 14 rfl rfl)
theorem dX2_fact_17 : decode cX2_fact 17 = .ok (.aload_n 0, 1) := dk_42 (dk_at dksX2_fact_0 17 rfl rfl)
theorem dX2_fact_18 : decode cX2_fact 18 = .ok (.dup, 1) := dk_89 (dk_at dksX2_fact_0 18 rfl rfl)
theorem dX2_fact_19 : decode cX2_fact 19 = .ok (.getfield 36, 3) := dk_180 0 36 (dk_at dksX2_fact_0 19 rfl rfl)
theorem dX2_fact_22 : decode cX2_fact 22 = .ok (.iconst 1, 1) := dk_4 (dk_at dksX2_fact_0 22 rfl rfl)
theorem dX2_fact_23 : decode cX2_fact 23 = .ok (.iadd, 1) := dk_96 (dk_at dksX2_fact_0 23 rfl rfl)
theorem dX2_fact_24 : decode cX2_fact 24 = .ok (.putfield 36, 3) := dk_181 0 36 (dk_at dksX2_fact_1 0 rfl rfl)
theorem dX2_fact_27 : decode cX2_fact 27 = .ok (.aload_n 0, 1) := dk_42 (dk_at dksX2_fact_1 3 rfl rfl)
theorem dX2_fact_28 : decode cX2_fact 28 = .ok (.invokevirtual 214, 3) := dk_182 0 214 (dk_at dksX2_fact_1 4 rfl rfl)
theorem dX2_fact_31 : decode cX2_fact 31 = .ok (.astore_n 1, 1) := dk_76 (dk_at dksX2_fact_1 7 rfl rfl)
theorem dX2_fact_32 : decode cX2_fact 32 = .ok (.aload_n 0, 1) := dk_42 (dk_at dksX2_fact_1 8 rfl rfl)
theorem dX2_fact_33 : decode cX2_fact 33 = .ok (.bipush 93, 2) := dk_16 93 (dk_at dksX2_fact_1 9 rfl rfl)
theorem dX2_fact_35 : decode cX2_fact 35 = .ok (.invokevirtual 121, 3) := dk_182 0 121 (dk_at dksX2_fact_1 11 rfl rfl)
theorem dX2_fact_38 : decode cX2_fact 38 = .ok (.aload_n 0, 1) := dk_42 (dk_at dksX2_fact_1 14 rfl rfl)
theorem dX2_fact_39 : decode cX2_fact 39 = .ok (.dup, 1) := dk_89 (dk_at dksX2_fact_1 15 rfl rfl)
theorem dX2_fact_40 : decode cX2_fact 40 = .ok (.getfield 114, 3) := dk_180 0 114 (dk_at dksX2_fact_1 16 rfl rfl)
theorem dX2_fact_43 : decode cX2_fact 43 = .ok (.iconst 1, 1) := dk_4 (dk_at dksX2_fact_1 19 rfl rfl)
theorem dX2_fact_44 : decode cX2_fact 44 = .ok (.isub, 1) := dk_100 (dk_at dksX2_fact_1 20 rfl rfl)
theorem dX2_fact_45 : decode cX2_fact 45 = .ok (.putfield 114, 3) := dk_181 0 114 (dk_at dksX2_fact_1 21 rfl rfl)
theorem dX2_fact_48 : decode cX2_fact 48 = .ok (.aload_n 1, 1) := dk_43 (dk_at dksX2_fact_2 0 rfl rfl)
theorem dX2_fact_49 : decode cX2_fact 49 = .ok (.areturn, 1) := dk_176 (dk_at dksX2_fact_2 1 rfl rfl)
theorem dX2_fact_50 : decode cX2_fact 50 = .ok (.aload_n 0, 1) := dk_42 (dk_at dksX2_fact_2 2 rfl rfl)
theorem dX2_fact_51 : decode cX2_fact 51 = .ok (.ldc_w 298, 3) := dk_19 1 42 (dk_at dksX2_fact_2 3 rfl rfl)
theorem dX2_fact_54 : decode cX2_fact 54 = .ok (.invokevirtual 290, 3) := dk_182 1 34 (dk_at dksX2_fact_2 6 rfl rfl)
theorem dX2_fact_57 : decode cX2_fact 57 = .ok (.ifCond .eq 35, 3) := dk_153 0 35 (dk_at dksX2_fact_2 9 rfl rfl)
theorem dX2_fact_60 : decode cX2_fact 60 = .ok (.aload_n 0, 1) := dk_42 (dk_at dksX2_fact_2 12 rfl rfl)
theorem dX2_fact_61 : decode cX2_fact 61 = .ok (.aload_n 0, 1) := dk_42 (dk_at dksX2_fact_2 13 rfl rfl)
theorem dX2_fact_62 : decode cX2_fact 62 = .ok (.getfield 61, 3) := dk_180 0 61 (dk_at dksX2_fact_2 14 rfl rfl)
theorem dX2_fact_65 : decode cX2_fact 65 = .ok (.invokevirtual 243, 3) := dk_182 0 243 (dk_at dksX2_fact_2 17 rfl rfl)
theorem dX2_fact_68 : decode cX2_fact 68 = .ok (.new 300, 3) := dk_187 1 44 (dk_at dksX2_fact_2 20 rfl rfl)
theorem dX2_fact_71 : decode cX2_fact 71 = .ok (.dup, 1) := dk_89 (dk_at dksX2_fact_2 23 rfl rfl)
theorem dX2_fact_72 : decode cX2_fact 72 = .ok (.aload_n 0, 1) := dk_42 (dk_at dksX2_fact_3 0 rfl rfl)
theorem dX2_fact_73 : decode cX2_fact 73 = .ok (.invokevirtual 293, 3) := dk_182 1 37 (dk_at dksX2_fact_3 1 rfl rfl)
theorem dX2_fact_76 : decode cX2_fact 76 = .ok (.invokespecial 302, 3) := dk_183 1 46 (dk_at dksX2_fact_3 4 rfl rfl)
theorem dX2_fact_79 : decode cX2_fact 79 = .ok (.astore_n 1, 1) := dk_76 (dk_at dksX2_fact_3 7 rfl rfl)
theorem dX2_fact_80 : decode cX2_fact 80 = .ok (.aload_n 0, 1) := dk_42 (dk_at dksX2_fact_3 8 rfl rfl)
theorem dX2_fact_81 : decode cX2_fact 81 = .ok (.dup, 1) := dk_89 (dk_at dksX2_fact_3 9 rfl rfl)
theorem dX2_fact_82 : decode cX2_fact 82 = .ok (.getfield 114, 3) := dk_180 0 114 (dk_at dksX2_fact_3 10 rfl rfl)
theorem dX2_fact_85 : decode cX2_fact 85 = .ok (.iconst 1, 1) := dk_4 (dk_at dksX2_fact_3 13 rfl rfl)
theorem dX2_fact_86 : decode cX2_fact 86 = .ok (.isub, 1) := dk_100 (dk_at dksX2_fact_3 14 rfl rfl)
theorem dX2_fact_87 : decode cX2_fact 87 = .ok (.putfield 114, 3) := dk_181 0 114 (dk_at dksX2_fact_3 15 rfl rfl)
theorem dX2_fact_90 : decode cX2_fact 90 = .ok (.aload_n 1, 1) := dk_43 (dk_at dksX2_fact_3 18 rfl rfl)
theorem dX2_fact_91 : decode cX2_fact 91 = .ok (.areturn, 1) := dk_176 (dk_at dksX2_fact_3 19 rfl rfl)
theorem dX2_fact_92 : decode cX2_fact 92 = .ok (.aload_n 0, 1) := dk_42 (dk_at dksX2_fact_3 20 rfl rfl)
theorem dX2_fact_93 : decode cX2_fact 93 = .ok (.ldc_w 305, 3) := dk_19 1 49 (dk_at dksX2_fact_3 21 rfl rfl)
theorem dX2_fact_96 : decode cX2_fact 96 = .ok (.invokevirtual 290, 3) := dk_182 1 34 (dk_at dksX2_fact_4 0 rfl rfl)
theorem dX2_fact_99 : decode cX2_fact 99 = .ok (.ifCond .eq 11, 3) := dk_153 0 11 (dk_at dksX2_fact_4 3 rfl rfl)
theorem dX2_fact_102 : decode cX2_fact 102 = .ok (.new 307, 3) := dk_187 1 51 (dk_at dksX2_fact_4 6 rfl rfl)
theorem dX2_fact_105 : decode cX2_fact 105 = .ok (.dup, 1) := dk_89 (dk_at dksX2_fact_4 9 rfl rfl)
theorem dX2_fact_106 : decode cX2_fact 106 = .ok (.invokespecial 309, 3) := dk_183 1 53 (dk_at dksX2_fact_4 10 rfl rfl)
theorem dX2_fact_109 : decode cX2_fact 109 = .ok (.areturn, 1) := dk_176 (dk_at dksX2_fact_4 13 rfl rfl)
theorem dX2_fact_110 : decode cX2_fact 110 = .ok (.aload_n 0, 1) := dk_42 (dk_at dksX2_fact_4 14 rfl rfl)
theorem dX2_fact_111 : decode cX2_fact 111 = .ok (.invokevirtual 199, 3) := dk_182 0 199 (dk_at dksX2_fact_4 15 rfl rfl)
theorem dX2_fact_114 : decode cX2_fact 114 = .ok (.astore_n 1, 1) := dk_76 (dk_at dksX2_fact_4 18 rfl rfl)
theorem dX2_fact_115 : decode cX2_fact 115 = .ok (.aload_n 0, 1) := dk_42 (dk_at dksX2_fact_4 19 rfl rfl)
theorem dX2_fact_116 : decode cX2_fact 116 = .ok (.invokevirtual 43, 3) := dk_182 0 43 (dk_at dksX2_fact_4 20 rfl rfl)
theorem dX2_fact_119 : decode cX2_fact 119 = .ok (.istore_n 2, 1) := dk_61 (dk_at dksX2_fact_4 23 rfl rfl)
theorem dX2_fact_120 : decode cX2_fact 120 = .ok (.iload_n 2, 1) := dk_28 (dk_at dksX2_fact_5 0 rfl rfl)
theorem dX2_fact_121 : decode cX2_fact 121 = .ok (.bipush 60, 2) := dk_16 60 (dk_at dksX2_fact_5 1 rfl rfl)
theorem dX2_fact_123 : decode cX2_fact 123 = .ok (.if_icmp .eq 25, 3) := dk_159 0 25 (dk_at dksX2_fact_5 3 rfl rfl)
theorem dX2_fact_126 : decode cX2_fact 126 = .ok (.iload_n 2, 1) := dk_28 (dk_at dksX2_fact_5 6 rfl rfl)
theorem dX2_fact_127 : decode cX2_fact 127 = .ok (.bipush 62, 2) := dk_16 62 (dk_at dksX2_fact_5 7 rfl rfl)
theorem dX2_fact_129 : decode cX2_fact 129 = .ok (.if_icmp .eq 19, 3) := dk_159 0 19 (dk_at dksX2_fact_5 9 rfl rfl)
theorem dX2_fact_132 : decode cX2_fact 132 = .ok (.iload_n 2, 1) := dk_28 (dk_at dksX2_fact_5 12 rfl rfl)
theorem dX2_fact_133 : decode cX2_fact 133 = .ok (.bipush 61, 2) := dk_16 61 (dk_at dksX2_fact_5 13 rfl rfl)
theorem dX2_fact_135 : decode cX2_fact 135 = .ok (.if_icmp .eq 13, 3) := dk_159 0 13 (dk_at dksX2_fact_5 15 rfl rfl)
theorem dX2_fact_138 : decode cX2_fact 138 = .ok (.aload_n 0, 1) := dk_42 (dk_at dksX2_fact_5 18 rfl rfl)
theorem dX2_fact_139 : decode cX2_fact 139 = .ok (.iconst 1, 1) := dk_4 (dk_at dksX2_fact_5 19 rfl rfl)
theorem dX2_fact_140 : decode cX2_fact 140 = .ok (.aload_n 0, 1) := dk_42 (dk_at dksX2_fact_5 20 rfl rfl)
theorem dX2_fact_141 : decode cX2_fact 141 = .ok (.getfield 36, 3) := dk_180 0 36 (dk_at dksX2_fact_5 21 rfl rfl)
theorem dX2_fact_144 : decode cX2_fact 144 = .ok (.invokevirtual 47, 3) := dk_182 0 47 (dk_at dksX2_fact_6 0 rfl rfl)
theorem dX2_fact_147 : decode cX2_fact 147 = .ok (.athrow, 1) := dk_191 (dk_at dksX2_fact_6 3 rfl rfl)
theorem dX2_fact_148 : decode cX2_fact 148 = .ok (.aload_n 0, 1) := dk_42 (dk_at dksX2_fact_6 4 rfl rfl)
theorem dX2_fact_149 : decode cX2_fact 149 = .ok (.dup, 1) := dk_89 (dk_at dksX2_fact_6 5 rfl rfl)
theorem dX2_fact_150 : decode cX2_fact 150 = .ok (.getfield 36, 3) := dk_180 0 36 (dk_at dksX2_fact_6 6 rfl rfl)
theorem dX2_fact_153 : decode cX2_fact 153 = .ok (.iconst 1, 1) := dk_4 (dk_at dksX2_fact_6 9 rfl rfl)
theorem dX2_fact_154 : decode cX2_fact 154 = .ok (.iadd, 1) := dk_96 (dk_at dksX2_fact_6 10 rfl rfl)
theorem dX2_fact_155 : decode cX2_fact 155 = .ok (.putfield 36, 3) := dk_181 0 36 (dk_at dksX2_fact_6 11 rfl rfl)
theorem dX2_fact_158 : decode cX2_fact 158 = .ok (.new 310, 3) := dk_187 1 54 (dk_at dksX2_fact_6 14 rfl rfl)
theorem dX2_fact_161 : decode cX2_fact 161 = .ok (.dup, 1) := dk_89 (dk_at dksX2_fact_6 17 rfl rfl)
theorem dX2_fact_162 : decode cX2_fact 162 = .ok (.aload_n 1, 1) := dk_43 (dk_at dksX2_fact_6 18 rfl rfl)
theorem dX2_fact_163 : decode cX2_fact 163 = .ok (.iload_n 2, 1) := dk_28 (dk_at dksX2_fact_6 19 rfl rfl)
theorem dX2_fact_164 : decode cX2_fact 164 = .ok (.aload_n 0, 1) := dk_42 (dk_at dksX2_fact_6 20 rfl rfl)
theorem dX2_fact_165 : decode cX2_fact 165 = .ok (.invokevirtual 199, 3) := dk_182 0 199 (dk_at dksX2_fact_6 21 rfl rfl)
theorem dX2_fact_168 : decode cX2_fact 168 = .ok (.invokespecial 312, 3) := dk_183 1 56 (dk_at dksX2_fact_7 0 rfl rfl)
theorem dX2_fact_171 : decode cX2_fact 171 = .ok (.areturn, 1) := dk_176 (dk_at dksX2_fact_7 3 rfl rfl)
abbrev cX2_opens : ByteArray := prog_16_method_22_code
def yX2_opens : MethodName := ⟨RX2, "opens", "(I)V"⟩
def dkwX2_opens_1 : List UInt8 := [181, 0, 114, 177]
abbrev dktX2_opens_1 : List UInt8 := dkwX2_opens_1 ++ []
def dkwX2_opens_0 : List UInt8 := [42, 180, 0, 114, 16, 6, 160, 0, 10, 42, 7, 27, 182, 0, 47, 191, 42, 89, 180, 0, 114, 4, 96]
abbrev dktX2_opens_0 : List UInt8 := dkwX2_opens_0 ++ dktX2_opens_1
theorem dksX2_opens_0 : cX2_opens.data.toList.drop 0 = dktX2_opens_0 := by decide +kernel
theorem dksX2_opens_1 : cX2_opens.data.toList.drop 23 = dktX2_opens_1 := dk_seg dksX2_opens_0 23 rfl rfl
theorem dX2_opens_0 : decode cX2_opens 0 = .ok (.aload_n 0, 1) := dk_42 (dk_at dksX2_opens_0 0 rfl rfl)
theorem dX2_opens_1 : decode cX2_opens 1 = .ok (.getfield 114, 3) := dk_180 0 114 (dk_at dksX2_opens_0 1 rfl rfl)
theorem dX2_opens_4 : decode cX2_opens 4 = .ok (.bipush 6, 2) := dk_16 6 (dk_at dksX2_opens_0 4 rfl rfl)
theorem dX2_opens_6 : decode cX2_opens 6 = .ok (.if_icmp .ne 10, 3) := dk_160 0 10 (dk_at dksX2_opens_0 6 rfl rfl)
theorem dX2_opens_9 : decode cX2_opens 9 = .ok (.aload_n 0, 1) := dk_42 (dk_at dksX2_opens_0 9 rfl rfl)
theorem dX2_opens_10 : decode cX2_opens 10 = .ok (.iconst 4, 1) := dk_7 (dk_at dksX2_opens_0 10 rfl rfl)
theorem dX2_opens_11 : decode cX2_opens 11 = .ok (.iload_n 1, 1) := dk_27 (dk_at dksX2_opens_0 11 rfl rfl)
theorem dX2_opens_12 : decode cX2_opens 12 = .ok (.invokevirtual 47, 3) := dk_182 0 47 (dk_at dksX2_opens_0 12 rfl rfl)
theorem dX2_opens_15 : decode cX2_opens 15 = .ok (.athrow, 1) := dk_191 (dk_at dksX2_opens_0 15 rfl rfl)
theorem dX2_opens_16 : decode cX2_opens 16 = .ok (.aload_n 0, 1) := dk_42 (dk_at dksX2_opens_0 16 rfl rfl)
theorem dX2_opens_17 : decode cX2_opens 17 = .ok (.dup, 1) := dk_89 (dk_at dksX2_opens_0 17 rfl rfl)
theorem dX2_opens_18 : decode cX2_opens 18 = .ok (.getfield 114, 3) := dk_180 0 114 (dk_at dksX2_opens_0 18 rfl rfl)
theorem dX2_opens_21 : decode cX2_opens 21 = .ok (.iconst 1, 1) := dk_4 (dk_at dksX2_opens_0 21 rfl rfl)
theorem dX2_opens_22 : decode cX2_opens 22 = .ok (.iadd, 1) := dk_96 (dk_at dksX2_opens_0 22 rfl rfl)
theorem dX2_opens_23 : decode cX2_opens 23 = .ok (.putfield 114, 3) := dk_181 0 114 (dk_at dksX2_opens_1 0 rfl rfl)
theorem dX2_opens_26 : decode cX2_opens 26 = .ok (.return_, 1) := dk_177 (dk_at dksX2_opens_1 3 rfl rfl)
abbrev cX2_passes : ByteArray := prog_16_method_9_code
def yX2_passes : MethodName := ⟨RX2, "passes", "(Ljava/lang/String;)Z"⟩
def dkwX2_passes_1 : List UInt8 := [182, 0, 74, 153, 0, 5, 4, 172, 42, 28, 181, 0, 36, 3, 172]
abbrev dktX2_passes_1 : List UInt8 := dkwX2_passes_1 ++ []
def dkwX2_passes_0 : List UInt8 := [42, 180, 0, 36, 61, 42, 182, 0, 43, 184, 0, 51, 154, 0, 5, 3, 172, 42, 182, 0, 70, 43]
abbrev dktX2_passes_0 : List UInt8 := dkwX2_passes_0 ++ dktX2_passes_1
theorem dksX2_passes_0 : cX2_passes.data.toList.drop 0 = dktX2_passes_0 := by decide +kernel
theorem dksX2_passes_1 : cX2_passes.data.toList.drop 22 = dktX2_passes_1 := dk_seg dksX2_passes_0 22 rfl rfl
theorem dX2_passes_0 : decode cX2_passes 0 = .ok (.aload_n 0, 1) := dk_42 (dk_at dksX2_passes_0 0 rfl rfl)
theorem dX2_passes_1 : decode cX2_passes 1 = .ok (.getfield 36, 3) := dk_180 0 36 (dk_at dksX2_passes_0 1 rfl rfl)
theorem dX2_passes_4 : decode cX2_passes 4 = .ok (.istore_n 2, 1) := dk_61 (dk_at dksX2_passes_0 4 rfl rfl)
theorem dX2_passes_5 : decode cX2_passes 5 = .ok (.aload_n 0, 1) := dk_42 (dk_at dksX2_passes_0 5 rfl rfl)
theorem dX2_passes_6 : decode cX2_passes 6 = .ok (.invokevirtual 43, 3) := dk_182 0 43 (dk_at dksX2_passes_0 6 rfl rfl)
theorem dX2_passes_9 : decode cX2_passes 9 = .ok (.invokestatic 51, 3) := dk_184 0 51 (dk_at dksX2_passes_0 9 rfl rfl)
theorem dX2_passes_12 : decode cX2_passes 12 = .ok (.ifCond .ne 5, 3) := dk_154 0 5 (dk_at dksX2_passes_0 12 rfl rfl)
theorem dX2_passes_15 : decode cX2_passes 15 = .ok (.iconst 0, 1) := dk_3 (dk_at dksX2_passes_0 15 rfl rfl)
theorem dX2_passes_16 : decode cX2_passes 16 = .ok (.ireturn, 1) := dk_172 (dk_at dksX2_passes_0 16 rfl rfl)
theorem dX2_passes_17 : decode cX2_passes 17 = .ok (.aload_n 0, 1) := dk_42 (dk_at dksX2_passes_0 17 rfl rfl)
theorem dX2_passes_18 : decode cX2_passes 18 = .ok (.invokevirtual 70, 3) := dk_182 0 70 (dk_at dksX2_passes_0 18 rfl rfl)
theorem dX2_passes_21 : decode cX2_passes 21 = .ok (.aload_n 1, 1) := dk_43 (dk_at dksX2_passes_0 21 rfl rfl)
theorem dX2_passes_22 : decode cX2_passes 22 = .ok (.invokevirtual 74, 3) := dk_182 0 74 (dk_at dksX2_passes_1 0 rfl rfl)
theorem dX2_passes_25 : decode cX2_passes 25 = .ok (.ifCond .eq 5, 3) := dk_153 0 5 (dk_at dksX2_passes_1 3 rfl rfl)
theorem dX2_passes_28 : decode cX2_passes 28 = .ok (.iconst 1, 1) := dk_4 (dk_at dksX2_passes_1 6 rfl rfl)
theorem dX2_passes_29 : decode cX2_passes 29 = .ok (.ireturn, 1) := dk_172 (dk_at dksX2_passes_1 7 rfl rfl)
theorem dX2_passes_30 : decode cX2_passes 30 = .ok (.aload_n 0, 1) := dk_42 (dk_at dksX2_passes_1 8 rfl rfl)
theorem dX2_passes_31 : decode cX2_passes 31 = .ok (.iload_n 2, 1) := dk_28 (dk_at dksX2_passes_1 9 rfl rfl)
theorem dX2_passes_32 : decode cX2_passes 32 = .ok (.putfield 36, 3) := dk_181 0 36 (dk_at dksX2_passes_1 10 rfl rfl)
theorem dX2_passes_35 : decode cX2_passes 35 = .ok (.iconst 0, 1) := dk_3 (dk_at dksX2_passes_1 13 rfl rfl)
theorem dX2_passes_36 : decode cX2_passes 36 = .ok (.ireturn, 1) := dk_172 (dk_at dksX2_passes_1 14 rfl rfl)
abbrev cX2_sum : ByteArray := prog_16_method_20_code
def yX2_sum : MethodName := ⟨RX2, "sum", "()LVerbAtDusk$Value;"⟩
def dkwX2_sum_3 : List UInt8 := [167, 255, 206, 43, 176]
abbrev dktX2_sum_3 : List UInt8 := dkwX2_sum_3 ++ []
def dkwX2_sum_2 : List UInt8 := [16, 45, 182, 0, 238, 153, 0, 16, 43, 16, 45, 42, 182, 0, 232, 182, 0, 235, 167, 255, 211, 3, 61]
abbrev dktX2_sum_2 : List UInt8 := dkwX2_sum_2 ++ dktX2_sum_3
def dkwX2_sum_1 : List UInt8 := [42, 16, 43, 182, 0, 238, 153, 0, 16, 43, 16, 43, 42, 182, 0, 232, 182, 0, 235, 167, 255, 233, 42]
abbrev dktX2_sum_1 : List UInt8 := dkwX2_sum_1 ++ dktX2_sum_2
def dkwX2_sum_0 : List UInt8 := [187, 0, 229, 89, 183, 0, 231, 76, 43, 16, 43, 42, 182, 0, 232, 182, 0, 235, 4, 61, 28, 153, 0, 52]
abbrev dktX2_sum_0 : List UInt8 := dkwX2_sum_0 ++ dktX2_sum_1
theorem dksX2_sum_0 : cX2_sum.data.toList.drop 0 = dktX2_sum_0 := by decide +kernel
theorem dksX2_sum_1 : cX2_sum.data.toList.drop 24 = dktX2_sum_1 := dk_seg dksX2_sum_0 24 rfl rfl
theorem dksX2_sum_2 : cX2_sum.data.toList.drop 47 = dktX2_sum_2 := dk_seg dksX2_sum_1 23 rfl rfl
theorem dksX2_sum_3 : cX2_sum.data.toList.drop 70 = dktX2_sum_3 := dk_seg dksX2_sum_2 23 rfl rfl
theorem dX2_sum_0 : decode cX2_sum 0 = .ok (.new 229, 3) := dk_187 0 229 (dk_at dksX2_sum_0 0 rfl rfl)
theorem dX2_sum_3 : decode cX2_sum 3 = .ok (.dup, 1) := dk_89 (dk_at dksX2_sum_0 3 rfl rfl)
theorem dX2_sum_4 : decode cX2_sum 4 = .ok (.invokespecial 231, 3) := dk_183 0 231 (dk_at dksX2_sum_0 4 rfl rfl)
theorem dX2_sum_7 : decode cX2_sum 7 = .ok (.astore_n 1, 1) := dk_76 (dk_at dksX2_sum_0 7 rfl rfl)
theorem dX2_sum_8 : decode cX2_sum 8 = .ok (.aload_n 1, 1) := dk_43 (dk_at dksX2_sum_0 8 rfl rfl)
theorem dX2_sum_9 : decode cX2_sum 9 = .ok (.bipush 43, 2) := dk_16 43 (dk_at dksX2_sum_0 9 rfl rfl)
theorem dX2_sum_11 : decode cX2_sum 11 = .ok (.aload_n 0, 1) := dk_42 (dk_at dksX2_sum_0 11 rfl rfl)
theorem dX2_sum_12 : decode cX2_sum 12 = .ok (.invokevirtual 232, 3) := dk_182 0 232 (dk_at dksX2_sum_0 12 rfl rfl)
theorem dX2_sum_15 : decode cX2_sum 15 = .ok (.invokevirtual 235, 3) := dk_182 0 235 (dk_at dksX2_sum_0 15 rfl rfl)
theorem dX2_sum_18 : decode cX2_sum 18 = .ok (.iconst 1, 1) := dk_4 (dk_at dksX2_sum_0 18 rfl rfl)
theorem dX2_sum_19 : decode cX2_sum 19 = .ok (.istore_n 2, 1) := dk_61 (dk_at dksX2_sum_0 19 rfl rfl)
theorem dX2_sum_20 : decode cX2_sum 20 = .ok (.iload_n 2, 1) := dk_28 (dk_at dksX2_sum_0 20 rfl rfl)
theorem dX2_sum_21 : decode cX2_sum 21 = .ok (.ifCond .eq 52, 3) := dk_153 0 52 (dk_at dksX2_sum_0 21 rfl rfl)
theorem dX2_sum_24 : decode cX2_sum 24 = .ok (.aload_n 0, 1) := dk_42 (dk_at dksX2_sum_1 0 rfl rfl)
theorem dX2_sum_25 : decode cX2_sum 25 = .ok (.bipush 43, 2) := dk_16 43 (dk_at dksX2_sum_1 1 rfl rfl)
theorem dX2_sum_27 : decode cX2_sum 27 = .ok (.invokevirtual 238, 3) := dk_182 0 238 (dk_at dksX2_sum_1 3 rfl rfl)
theorem dX2_sum_30 : decode cX2_sum 30 = .ok (.ifCond .eq 16, 3) := dk_153 0 16 (dk_at dksX2_sum_1 6 rfl rfl)
theorem dX2_sum_33 : decode cX2_sum 33 = .ok (.aload_n 1, 1) := dk_43 (dk_at dksX2_sum_1 9 rfl rfl)
theorem dX2_sum_34 : decode cX2_sum 34 = .ok (.bipush 43, 2) := dk_16 43 (dk_at dksX2_sum_1 10 rfl rfl)
theorem dX2_sum_36 : decode cX2_sum 36 = .ok (.aload_n 0, 1) := dk_42 (dk_at dksX2_sum_1 12 rfl rfl)
theorem dX2_sum_37 : decode cX2_sum 37 = .ok (.invokevirtual 232, 3) := dk_182 0 232 (dk_at dksX2_sum_1 13 rfl rfl)
theorem dX2_sum_40 : decode cX2_sum 40 = .ok (.invokevirtual 235, 3) := dk_182 0 235 (dk_at dksX2_sum_1 16 rfl rfl)
theorem dX2_sum_43 : decode cX2_sum 43 = .ok (.goto (-23), 3) := dk_167 255 233 (dk_at dksX2_sum_1 19 rfl rfl)
theorem dX2_sum_46 : decode cX2_sum 46 = .ok (.aload_n 0, 1) := dk_42 (dk_at dksX2_sum_1 22 rfl rfl)
theorem dX2_sum_47 : decode cX2_sum 47 = .ok (.bipush 45, 2) := dk_16 45 (dk_at dksX2_sum_2 0 rfl rfl)
theorem dX2_sum_49 : decode cX2_sum 49 = .ok (.invokevirtual 238, 3) := dk_182 0 238 (dk_at dksX2_sum_2 2 rfl rfl)
theorem dX2_sum_52 : decode cX2_sum 52 = .ok (.ifCond .eq 16, 3) := dk_153 0 16 (dk_at dksX2_sum_2 5 rfl rfl)
theorem dX2_sum_55 : decode cX2_sum 55 = .ok (.aload_n 1, 1) := dk_43 (dk_at dksX2_sum_2 8 rfl rfl)
theorem dX2_sum_56 : decode cX2_sum 56 = .ok (.bipush 45, 2) := dk_16 45 (dk_at dksX2_sum_2 9 rfl rfl)
theorem dX2_sum_58 : decode cX2_sum 58 = .ok (.aload_n 0, 1) := dk_42 (dk_at dksX2_sum_2 11 rfl rfl)
theorem dX2_sum_59 : decode cX2_sum 59 = .ok (.invokevirtual 232, 3) := dk_182 0 232 (dk_at dksX2_sum_2 12 rfl rfl)
theorem dX2_sum_62 : decode cX2_sum 62 = .ok (.invokevirtual 235, 3) := dk_182 0 235 (dk_at dksX2_sum_2 15 rfl rfl)
theorem dX2_sum_65 : decode cX2_sum 65 = .ok (.goto (-45), 3) := dk_167 255 211 (dk_at dksX2_sum_2 18 rfl rfl)
theorem dX2_sum_68 : decode cX2_sum 68 = .ok (.iconst 0, 1) := dk_3 (dk_at dksX2_sum_2 21 rfl rfl)
theorem dX2_sum_69 : decode cX2_sum 69 = .ok (.istore_n 2, 1) := dk_61 (dk_at dksX2_sum_2 22 rfl rfl)
theorem dX2_sum_70 : decode cX2_sum 70 = .ok (.goto (-50), 3) := dk_167 255 206 (dk_at dksX2_sum_3 0 rfl rfl)
theorem dX2_sum_73 : decode cX2_sum 73 = .ok (.aload_n 1, 1) := dk_43 (dk_at dksX2_sum_3 3 rfl rfl)
theorem dX2_sum_74 : decode cX2_sum 74 = .ok (.areturn, 1) := dk_176 (dk_at dksX2_sum_3 4 rfl rfl)
abbrev cX2_product : ByteArray := prog_16_method_21_code
def yX2_product : MethodName := ⟨RX2, "product", "()LVerbAtDusk$Value;"⟩
def dkwX2_product_3 : List UInt8 := [167, 255, 206, 43, 176]
abbrev dktX2_product_3 : List UInt8 := dkwX2_product_3 ++ []
def dkwX2_product_2 : List UInt8 := [16, 47, 182, 0, 238, 153, 0, 16, 43, 16, 47, 42, 182, 0, 240, 182, 0, 235, 167, 255, 211, 3, 61]
abbrev dktX2_product_2 : List UInt8 := dkwX2_product_2 ++ dktX2_product_3
def dkwX2_product_1 : List UInt8 := [42, 16, 42, 182, 0, 238, 153, 0, 16, 43, 16, 42, 42, 182, 0, 240, 182, 0, 235, 167, 255, 233, 42]
abbrev dktX2_product_1 : List UInt8 := dkwX2_product_1 ++ dktX2_product_2
def dkwX2_product_0 : List UInt8 := [187, 0, 229, 89, 183, 0, 231, 76, 43, 16, 42, 42, 182, 0, 240, 182, 0, 235, 4, 61, 28, 153, 0, 52]
abbrev dktX2_product_0 : List UInt8 := dkwX2_product_0 ++ dktX2_product_1
theorem dksX2_product_0 : cX2_product.data.toList.drop 0 = dktX2_product_0 := by decide +kernel
theorem dksX2_product_1 : cX2_product.data.toList.drop 24 = dktX2_product_1 := dk_seg dksX2_product_0 24 rfl rfl
theorem dksX2_product_2 : cX2_product.data.toList.drop 47 = dktX2_product_2 := dk_seg dksX2_product_1 23 rfl rfl
theorem dksX2_product_3 : cX2_product.data.toList.drop 70 = dktX2_product_3 := dk_seg dksX2_product_2 23 rfl rfl
theorem dX2_product_0 : decode cX2_product 0 = .ok (.new 229, 3) := dk_187 0 229 (dk_at dksX2_product_0 0 rfl rfl)
theorem dX2_product_3 : decode cX2_product 3 = .ok (.dup, 1) := dk_89 (dk_at dksX2_product_0 3 rfl rfl)
theorem dX2_product_4 : decode cX2_product 4 = .ok (.invokespecial 231, 3) := dk_183 0 231 (dk_at dksX2_product_0 4 rfl rfl)
theorem dX2_product_7 : decode cX2_product 7 = .ok (.astore_n 1, 1) := dk_76 (dk_at dksX2_product_0 7 rfl rfl)
theorem dX2_product_8 : decode cX2_product 8 = .ok (.aload_n 1, 1) := dk_43 (dk_at dksX2_product_0 8 rfl rfl)
theorem dX2_product_9 : decode cX2_product 9 = .ok (.bipush 42, 2) := dk_16 42 (dk_at dksX2_product_0 9 rfl rfl)
theorem dX2_product_11 : decode cX2_product 11 = .ok (.aload_n 0, 1) := dk_42 (dk_at dksX2_product_0 11 rfl rfl)
theorem dX2_product_12 : decode cX2_product 12 = .ok (.invokevirtual 240, 3) := dk_182 0 240 (dk_at dksX2_product_0 12 rfl rfl)
theorem dX2_product_15 : decode cX2_product 15 = .ok (.invokevirtual 235, 3) := dk_182 0 235 (dk_at dksX2_product_0 15 rfl rfl)
theorem dX2_product_18 : decode cX2_product 18 = .ok (.iconst 1, 1) := dk_4 (dk_at dksX2_product_0 18 rfl rfl)
theorem dX2_product_19 : decode cX2_product 19 = .ok (.istore_n 2, 1) := dk_61 (dk_at dksX2_product_0 19 rfl rfl)
theorem dX2_product_20 : decode cX2_product 20 = .ok (.iload_n 2, 1) := dk_28 (dk_at dksX2_product_0 20 rfl rfl)
theorem dX2_product_21 : decode cX2_product 21 = .ok (.ifCond .eq 52, 3) := dk_153 0 52 (dk_at dksX2_product_0 21 rfl rfl)
theorem dX2_product_24 : decode cX2_product 24 = .ok (.aload_n 0, 1) := dk_42 (dk_at dksX2_product_1 0 rfl rfl)
theorem dX2_product_25 : decode cX2_product 25 = .ok (.bipush 42, 2) := dk_16 42 (dk_at dksX2_product_1 1 rfl rfl)
theorem dX2_product_27 : decode cX2_product 27 = .ok (.invokevirtual 238, 3) := dk_182 0 238 (dk_at dksX2_product_1 3 rfl rfl)
theorem dX2_product_30 : decode cX2_product 30 = .ok (.ifCond .eq 16, 3) := dk_153 0 16 (dk_at dksX2_product_1 6 rfl rfl)
theorem dX2_product_33 : decode cX2_product 33 = .ok (.aload_n 1, 1) := dk_43 (dk_at dksX2_product_1 9 rfl rfl)
theorem dX2_product_34 : decode cX2_product 34 = .ok (.bipush 42, 2) := dk_16 42 (dk_at dksX2_product_1 10 rfl rfl)
theorem dX2_product_36 : decode cX2_product 36 = .ok (.aload_n 0, 1) := dk_42 (dk_at dksX2_product_1 12 rfl rfl)
theorem dX2_product_37 : decode cX2_product 37 = .ok (.invokevirtual 240, 3) := dk_182 0 240 (dk_at dksX2_product_1 13 rfl rfl)
theorem dX2_product_40 : decode cX2_product 40 = .ok (.invokevirtual 235, 3) := dk_182 0 235 (dk_at dksX2_product_1 16 rfl rfl)
theorem dX2_product_43 : decode cX2_product 43 = .ok (.goto (-23), 3) := dk_167 255 233 (dk_at dksX2_product_1 19 rfl rfl)
theorem dX2_product_46 : decode cX2_product 46 = .ok (.aload_n 0, 1) := dk_42 (dk_at dksX2_product_1 22 rfl rfl)
theorem dX2_product_47 : decode cX2_product 47 = .ok (.bipush 47, 2) := dk_16 47 (dk_at dksX2_product_2 0 rfl rfl)
theorem dX2_product_49 : decode cX2_product 49 = .ok (.invokevirtual 238, 3) := dk_182 0 238 (dk_at dksX2_product_2 2 rfl rfl)
theorem dX2_product_52 : decode cX2_product 52 = .ok (.ifCond .eq 16, 3) := dk_153 0 16 (dk_at dksX2_product_2 5 rfl rfl)
theorem dX2_product_55 : decode cX2_product 55 = .ok (.aload_n 1, 1) := dk_43 (dk_at dksX2_product_2 8 rfl rfl)
theorem dX2_product_56 : decode cX2_product 56 = .ok (.bipush 47, 2) := dk_16 47 (dk_at dksX2_product_2 9 rfl rfl)
theorem dX2_product_58 : decode cX2_product 58 = .ok (.aload_n 0, 1) := dk_42 (dk_at dksX2_product_2 11 rfl rfl)
theorem dX2_product_59 : decode cX2_product 59 = .ok (.invokevirtual 240, 3) := dk_182 0 240 (dk_at dksX2_product_2 12 rfl rfl)
theorem dX2_product_62 : decode cX2_product 62 = .ok (.invokevirtual 235, 3) := dk_182 0 235 (dk_at dksX2_product_2 15 rfl rfl)
theorem dX2_product_65 : decode cX2_product 65 = .ok (.goto (-45), 3) := dk_167 255 211 (dk_at dksX2_product_2 18 rfl rfl)
theorem dX2_product_68 : decode cX2_product 68 = .ok (.iconst 0, 1) := dk_3 (dk_at dksX2_product_2 21 rfl rfl)
theorem dX2_product_69 : decode cX2_product 69 = .ok (.istore_n 2, 1) := dk_61 (dk_at dksX2_product_2 22 rfl rfl)
theorem dX2_product_70 : decode cX2_product 70 = .ok (.goto (-50), 3) := dk_167 255 206 (dk_at dksX2_product_3 0 rfl rfl)
theorem dX2_product_73 : decode cX2_product 73 = .ok (.aload_n 1, 1) := dk_43 (dk_at dksX2_product_3 3 rfl rfl)
theorem dX2_product_74 : decode cX2_product 74 = .ok (.areturn, 1) := dk_176 (dk_at dksX2_product_3 4 rfl rfl)
abbrev cX2_atom : ByteArray := prog_16_method_24_code
def yX2_atom : MethodName := ⟨RX2, "atom", "()LVerbAtDusk$Value;"⟩
def dkwX2_atom_7 : List UInt8 := [182, 0, 251, 176]
abbrev dktX2_atom_7 : List UInt8 := dkwX2_atom_7 ++ []
def dkwX2_atom_6 : List UInt8 := [180, 0, 61, 182, 0, 47, 191, 42, 43, 19, 1, 17, 182, 0, 74, 153, 0, 7, 4, 167, 0, 4, 5]
abbrev dktX2_atom_6 : List UInt8 := dkwX2_atom_6 ++ dktX2_atom_7
def dkwX2_atom_5 : List UInt8 := [19, 1, 17, 182, 0, 74, 154, 0, 23, 43, 19, 1, 19, 182, 0, 74, 154, 0, 13, 42, 4, 42]
abbrev dktX2_atom_5 : List UInt8 := dkwX2_atom_5 ++ dktX2_atom_6
def dkwX2_atom_4 : List UInt8 := [178, 1, 11, 184, 0, 82, 167, 0, 4, 2, 61, 28, 2, 159, 0, 9, 42, 28, 182, 1, 14, 176, 43]
abbrev dktX2_atom_4 : List UInt8 := dkwX2_atom_4 ++ dktX2_atom_5
def dkwX2_atom_3 : List UInt8 := [153, 0, 12, 187, 1, 7, 89, 28, 183, 1, 9, 176, 42, 180, 0, 196, 17, 1, 241, 160, 0, 13, 43]
abbrev dktX2_atom_3 : List UInt8 := dkwX2_atom_3 ++ dktX2_atom_4
def dkwX2_atom_2 : List UInt8 := [76, 43, 178, 1, 4, 184, 0, 82, 61, 28, 2, 159, 0, 23, 42, 180, 0, 196, 28, 184, 0, 192]
abbrev dktX2_atom_2 : List UInt8 := dkwX2_atom_2 ++ dktX2_atom_3
def dkwX2_atom_1 : List UInt8 := [153, 0, 20, 187, 0, 255, 89, 42, 3, 17, 39, 15, 182, 0, 96, 133, 183, 1, 1, 176, 42, 182, 0, 70]
abbrev dktX2_atom_1 : List UInt8 := dkwX2_atom_1 ++ dktX2_atom_2
def dkwX2_atom_0 : List UInt8 := [42, 182, 0, 43, 16, 40, 160, 0, 9, 42, 3, 182, 0, 251, 176, 42, 182, 0, 43, 184, 0, 55]
abbrev dktX2_atom_0 : List UInt8 := dkwX2_atom_0 ++ dktX2_atom_1
theorem dksX2_atom_0 : cX2_atom.data.toList.drop 0 = dktX2_atom_0 := by decide +kernel
theorem dksX2_atom_1 : cX2_atom.data.toList.drop 22 = dktX2_atom_1 := dk_seg dksX2_atom_0 22 rfl rfl
theorem dksX2_atom_2 : cX2_atom.data.toList.drop 46 = dktX2_atom_2 := dk_seg dksX2_atom_1 24 rfl rfl
theorem dksX2_atom_3 : cX2_atom.data.toList.drop 68 = dktX2_atom_3 := dk_seg dksX2_atom_2 22 rfl rfl
theorem dksX2_atom_4 : cX2_atom.data.toList.drop 91 = dktX2_atom_4 := dk_seg dksX2_atom_3 23 rfl rfl
theorem dksX2_atom_5 : cX2_atom.data.toList.drop 114 = dktX2_atom_5 := dk_seg dksX2_atom_4 23 rfl rfl
theorem dksX2_atom_6 : cX2_atom.data.toList.drop 136 = dktX2_atom_6 := dk_seg dksX2_atom_5 22 rfl rfl
theorem dksX2_atom_7 : cX2_atom.data.toList.drop 159 = dktX2_atom_7 := dk_seg dksX2_atom_6 23 rfl rfl
theorem dX2_atom_0 : decode cX2_atom 0 = .ok (.aload_n 0, 1) := dk_42 (dk_at dksX2_atom_0 0 rfl rfl)
theorem dX2_atom_1 : decode cX2_atom 1 = .ok (.invokevirtual 43, 3) := dk_182 0 43 (dk_at dksX2_atom_0 1 rfl rfl)
theorem dX2_atom_4 : decode cX2_atom 4 = .ok (.bipush 40, 2) := dk_16 40 (dk_at dksX2_atom_0 4 rfl rfl)
theorem dX2_atom_6 : decode cX2_atom 6 = .ok (.if_icmp .ne 9, 3) := dk_160 0 9 (dk_at dksX2_atom_0 6 rfl rfl)
theorem dX2_atom_9 : decode cX2_atom 9 = .ok (.aload_n 0, 1) := dk_42 (dk_at dksX2_atom_0 9 rfl rfl)
theorem dX2_atom_10 : decode cX2_atom 10 = .ok (.iconst 0, 1) := dk_3 (dk_at dksX2_atom_0 10 rfl rfl)
theorem dX2_atom_11 : decode cX2_atom 11 = .ok (.invokevirtual 251, 3) := dk_182 0 251 (dk_at dksX2_atom_0 11 rfl rfl)
theorem dX2_atom_14 : decode cX2_atom 14 = .ok (.areturn, 1) := dk_176 (dk_at dksX2_atom_0 14 rfl rfl)
theorem dX2_atom_15 : decode cX2_atom 15 = .ok (.aload_n 0, 1) := dk_42 (dk_at dksX2_atom_0 15 rfl rfl)
theorem dX2_atom_16 : decode cX2_atom 16 = .ok (.invokevirtual 43, 3) := dk_182 0 43 (dk_at dksX2_atom_0 16 rfl rfl)
theorem dX2_atom_19 : decode cX2_atom 19 = .ok (.invokestatic 55, 3) := dk_184 0 55 (dk_at dksX2_atom_0 19 rfl rfl)
theorem dX2_atom_22 : decode cX2_atom 22 = .ok (.ifCond .eq 20, 3) := dk_153 0 20 (dk_at dksX2_atom_1 0 rfl rfl)
theorem dX2_atom_25 : decode cX2_atom 25 = .ok (.new 255, 3) := dk_187 0 255 (dk_at dksX2_atom_1 3 rfl rfl)
theorem dX2_atom_28 : decode cX2_atom 28 = .ok (.dup, 1) := dk_89 (dk_at dksX2_atom_1 6 rfl rfl)
theorem dX2_atom_29 : decode cX2_atom 29 = .ok (.aload_n 0, 1) := dk_42 (dk_at dksX2_atom_1 7 rfl rfl)
theorem dX2_atom_30 : decode cX2_atom 30 = .ok (.iconst 0, 1) := dk_3 (dk_at dksX2_atom_1 8 rfl rfl)
theorem dX2_atom_31 : decode cX2_atom 31 = .ok (.sipush 9999, 3) := dk_17 39 15 (dk_at dksX2_atom_1 9 rfl rfl)
theorem dX2_atom_34 : decode cX2_atom 34 = .ok (.invokevirtual 96, 3) := dk_182 0 96 (dk_at dksX2_atom_1 12 rfl rfl)
theorem dX2_atom_37 : decode cX2_atom 37 = .ok (.i2l, 1) := dk_133 (dk_at dksX2_atom_1 15 rfl rfl)
theorem dX2_atom_38 : decode cX2_atom 38 = .ok (.invokespecial 257, 3) := dk_183 1 1 (dk_at dksX2_atom_1 16 rfl rfl)
theorem dX2_atom_41 : decode cX2_atom 41 = .ok (.areturn, 1) := dk_176 (dk_at dksX2_atom_1 19 rfl rfl)
theorem dX2_atom_42 : decode cX2_atom 42 = .ok (.aload_n 0, 1) := dk_42 (dk_at dksX2_atom_1 20 rfl rfl)
theorem dX2_atom_43 : decode cX2_atom 43 = .ok (.invokevirtual 70, 3) := dk_182 0 70 (dk_at dksX2_atom_1 21 rfl rfl)
theorem dX2_atom_46 : decode cX2_atom 46 = .ok (.astore_n 1, 1) := dk_76 (dk_at dksX2_atom_2 0 rfl rfl)
theorem dX2_atom_47 : decode cX2_atom 47 = .ok (.aload_n 1, 1) := dk_43 (dk_at dksX2_atom_2 1 rfl rfl)
theorem dX2_atom_48 : decode cX2_atom 48 = .ok (.getstatic 260, 3) := dk_178 1 4 (dk_at dksX2_atom_2 2 rfl rfl)
theorem dX2_atom_51 : decode cX2_atom 51 = .ok (.invokestatic 82, 3) := dk_184 0 82 (dk_at dksX2_atom_2 5 rfl rfl)
theorem dX2_atom_54 : decode cX2_atom 54 = .ok (.istore_n 2, 1) := dk_61 (dk_at dksX2_atom_2 8 rfl rfl)
theorem dX2_atom_55 : decode cX2_atom 55 = .ok (.iload_n 2, 1) := dk_28 (dk_at dksX2_atom_2 9 rfl rfl)
theorem dX2_atom_56 : decode cX2_atom 56 = .ok (.iconst (-1), 1) := dk_2 (dk_at dksX2_atom_2 10 rfl rfl)
theorem dX2_atom_57 : decode cX2_atom 57 = .ok (.if_icmp .eq 23, 3) := dk_159 0 23 (dk_at dksX2_atom_2 11 rfl rfl)
theorem dX2_atom_60 : decode cX2_atom 60 = .ok (.aload_n 0, 1) := dk_42 (dk_at dksX2_atom_2 14 rfl rfl)
theorem dX2_atom_61 : decode cX2_atom 61 = .ok (.getfield 196, 3) := dk_180 0 196 (dk_at dksX2_atom_2 15 rfl rfl)
theorem dX2_atom_64 : decode cX2_atom 64 = .ok (.iload_n 2, 1) := dk_28 (dk_at dksX2_atom_2 18 rfl rfl)
theorem dX2_atom_65 : decode cX2_atom 65 = .ok (.invokestatic 192, 3) := dk_184 0 192 (dk_at dksX2_atom_2 19 rfl rfl)
theorem dX2_atom_68 : decode cX2_atom 68 = .ok (.ifCond .eq 12, 3) := dk_153 0 12 (dk_at dksX2_atom_3 0 rfl rfl)
theorem dX2_atom_71 : decode cX2_atom 71 = .ok (.new 263, 3) := dk_187 1 7 (dk_at dksX2_atom_3 3 rfl rfl)
theorem dX2_atom_74 : decode cX2_atom 74 = .ok (.dup, 1) := dk_89 (dk_at dksX2_atom_3 6 rfl rfl)
theorem dX2_atom_75 : decode cX2_atom 75 = .ok (.iload_n 2, 1) := dk_28 (dk_at dksX2_atom_3 7 rfl rfl)
theorem dX2_atom_76 : decode cX2_atom 76 = .ok (.invokespecial 265, 3) := dk_183 1 9 (dk_at dksX2_atom_3 8 rfl rfl)
theorem dX2_atom_79 : decode cX2_atom 79 = .ok (.areturn, 1) := dk_176 (dk_at dksX2_atom_3 11 rfl rfl)
theorem dX2_atom_80 : decode cX2_atom 80 = .ok (.aload_n 0, 1) := dk_42 (dk_at dksX2_atom_3 12 rfl rfl)
theorem dX2_atom_81 : decode cX2_atom 81 = .ok (.getfield 196, 3) := dk_180 0 196 (dk_at dksX2_atom_3 13 rfl rfl)
theorem dX2_atom_84 : decode cX2_atom 84 = .ok (.sipush 497, 3) := dk_17 1 241 (dk_at dksX2_atom_3 16 rfl rfl)
theorem dX2_atom_87 : decode cX2_atom 87 = .ok (.if_icmp .ne 13, 3) := dk_160 0 13 (dk_at dksX2_atom_3 19 rfl rfl)
theorem dX2_atom_90 : decode cX2_atom 90 = .ok (.aload_n 1, 1) := dk_43 (dk_at dksX2_atom_3 22 rfl rfl)
theorem dX2_atom_91 : decode cX2_atom 91 = .ok (.getstatic 267, 3) := dk_178 1 11 (dk_at dksX2_atom_4 0 rfl rfl)
theorem dX2_atom_94 : decode cX2_atom 94 = .ok (.invokestatic 82, 3) := dk_184 0 82 (dk_at dksX2_atom_4 3 rfl rfl)
theorem dX2_atom_97 : decode cX2_atom 97 = .ok (.goto 4, 3) := dk_167 0 4 (dk_at dksX2_atom_4 6 rfl rfl)
theorem dX2_atom_100 : decode cX2_atom 100 = .ok (.iconst (-1), 1) := dk_2 (dk_at dksX2_atom_4 9 rfl rfl)
theorem dX2_atom_101 : decode cX2_atom 101 = .ok (.istore_n 2, 1) := dk_61 (dk_at dksX2_atom_4 10 rfl rfl)
theorem dX2_atom_102 : decode cX2_atom 102 = .ok (.iload_n 2, 1) := dk_28 (dk_at dksX2_atom_4 11 rfl rfl)
theorem dX2_atom_103 : decode cX2_atom 103 = .ok (.iconst (-1), 1) := dk_2 (dk_at dksX2_atom_4 12 rfl rfl)
theorem dX2_atom_104 : decode cX2_atom 104 = .ok (.if_icmp .eq 9, 3) := dk_159 0 9 (dk_at dksX2_atom_4 13 rfl rfl)
theorem dX2_atom_107 : decode cX2_atom 107 = .ok (.aload_n 0, 1) := dk_42 (dk_at dksX2_atom_4 16 rfl rfl)
theorem dX2_atom_108 : decode cX2_atom 108 = .ok (.iload_n 2, 1) := dk_28 (dk_at dksX2_atom_4 17 rfl rfl)
theorem dX2_atom_109 : decode cX2_atom 109 = .ok (.invokevirtual 270, 3) := dk_182 1 14 (dk_at dksX2_atom_4 18 rfl rfl)
theorem dX2_atom_112 : decode cX2_atom 112 = .ok (.areturn, 1) := dk_176 (dk_at dksX2_atom_4 21 rfl rfl)
theorem dX2_atom_113 : decode cX2_atom 113 = .ok (.aload_n 1, 1) := dk_43 (dk_at dksX2_atom_4 22 rfl rfl)
theorem dX2_atom_114 : decode cX2_atom 114 = .ok (.ldc_w 273, 3) := dk_19 1 17 (dk_at dksX2_atom_5 0 rfl rfl)
theorem dX2_atom_117 : decode cX2_atom 117 = .ok (.invokevirtual 74, 3) := dk_182 0 74 (dk_at dksX2_atom_5 3 rfl rfl)
theorem dX2_atom_120 : decode cX2_atom 120 = .ok (.ifCond .ne 23, 3) := dk_154 0 23 (dk_at dksX2_atom_5 6 rfl rfl)
theorem dX2_atom_123 : decode cX2_atom 123 = .ok (.aload_n 1, 1) := dk_43 (dk_at dksX2_atom_5 9 rfl rfl)
theorem dX2_atom_124 : decode cX2_atom 124 = .ok (.ldc_w 275, 3) := dk_19 1 19 (dk_at dksX2_atom_5 10 rfl rfl)
theorem dX2_atom_127 : decode cX2_atom 127 = .ok (.invokevirtual 74, 3) := dk_182 0 74 (dk_at dksX2_atom_5 13 rfl rfl)
theorem dX2_atom_130 : decode cX2_atom 130 = .ok (.ifCond .ne 13, 3) := dk_154 0 13 (dk_at dksX2_atom_5 16 rfl rfl)
theorem dX2_atom_133 : decode cX2_atom 133 = .ok (.aload_n 0, 1) := dk_42 (dk_at dksX2_atom_5 19 rfl rfl)
theorem dX2_atom_134 : decode cX2_atom 134 = .ok (.iconst 1, 1) := dk_4 (dk_at dksX2_atom_5 20 rfl rfl)
theorem dX2_atom_135 : decode cX2_atom 135 = .ok (.aload_n 0, 1) := dk_42 (dk_at dksX2_atom_5 21 rfl rfl)
theorem dX2_atom_136 : decode cX2_atom 136 = .ok (.getfield 61, 3) := dk_180 0 61 (dk_at dksX2_atom_6 0 rfl rfl)
theorem dX2_atom_139 : decode cX2_atom 139 = .ok (.invokevirtual 47, 3) := dk_182 0 47 (dk_at dksX2_atom_6 3 rfl rfl)
theorem dX2_atom_142 : decode cX2_atom 142 = .ok (.athrow, 1) := dk_191 (dk_at dksX2_atom_6 6 rfl rfl)
theorem dX2_atom_143 : decode cX2_atom 143 = .ok (.aload_n 0, 1) := dk_42 (dk_at dksX2_atom_6 7 rfl rfl)
theorem dX2_atom_144 : decode cX2_atom 144 = .ok (.aload_n 1, 1) := dk_43 (dk_at dksX2_atom_6 8 rfl rfl)
theorem dX2_atom_145 : decode cX2_atom 145 = .ok (.ldc_w 273, 3) := dk_19 1 17 (dk_at dksX2_atom_6 9 rfl rfl)
theorem dX2_atom_148 : decode cX2_atom 148 = .ok (.invokevirtual 74, 3) := dk_182 0 74 (dk_at dksX2_atom_6 12 rfl rfl)
theorem dX2_atom_151 : decode cX2_atom 151 = .ok (.ifCond .eq 7, 3) := dk_153 0 7 (dk_at dksX2_atom_6 15 rfl rfl)
theorem dX2_atom_154 : decode cX2_atom 154 = .ok (.iconst 1, 1) := dk_4 (dk_at dksX2_atom_6 18 rfl rfl)
theorem dX2_atom_155 : decode cX2_atom 155 = .ok (.goto 4, 3) := dk_167 0 4 (dk_at dksX2_atom_6 19 rfl rfl)
theorem dX2_atom_158 : decode cX2_atom 158 = .ok (.iconst 2, 1) := dk_5 (dk_at dksX2_atom_6 22 rfl rfl)
theorem dX2_atom_159 : decode cX2_atom 159 = .ok (.invokevirtual 251, 3) := dk_182 0 251 (dk_at dksX2_atom_7 0 rfl rfl)
theorem dX2_atom_162 : decode cX2_atom 162 = .ok (.areturn, 1) := dk_176 (dk_at dksX2_atom_7 3 rfl rfl)
abbrev cX2_within : ByteArray := prog_16_method_23_code
def yX2_within : MethodName := ⟨RX2, "within", "(I)LVerbAtDusk$Value;"⟩
def dkwX2_within_4 : List UInt8 := [176]
abbrev dktX2_within_4 : List UInt8 := dkwX2_within_4 ++ []
def dkwX2_within_3 : List UInt8 := [182, 0, 199, 183, 0, 248, 78, 42, 16, 41, 182, 0, 121, 42, 89, 180, 0, 114, 4, 100, 181, 0, 114, 45]
abbrev dktX2_within_3 : List UInt8 := dkwX2_within_3 ++ dktX2_within_4
def dkwX2_within_2 : List UInt8 := [42, 16, 44, 182, 0, 121, 187, 0, 246, 89, 27, 5, 160, 0, 7, 4, 167, 0, 4, 3, 44, 42]
abbrev dktX2_within_2 : List UInt8 := dkwX2_within_2 ++ dktX2_within_3
def dkwX2_within_1 : List UInt8 := [182, 0, 243, 42, 89, 180, 0, 36, 4, 96, 181, 0, 36, 42, 182, 0, 199, 77, 44, 78, 27, 158, 0, 32]
abbrev dktX2_within_1 : List UInt8 := dkwX2_within_1 ++ dktX2_within_2
def dkwX2_within_0 : List UInt8 := [42, 182, 0, 43, 16, 40, 159, 0, 13, 42, 4, 42, 180, 0, 36, 182, 0, 47, 191, 42, 42, 180, 0, 36]
abbrev dktX2_within_0 : List UInt8 := dkwX2_within_0 ++ dktX2_within_1
theorem dksX2_within_0 : cX2_within.data.toList.drop 0 = dktX2_within_0 := by decide +kernel
theorem dksX2_within_1 : cX2_within.data.toList.drop 24 = dktX2_within_1 := dk_seg dksX2_within_0 24 rfl rfl
theorem dksX2_within_2 : cX2_within.data.toList.drop 48 = dktX2_within_2 := dk_seg dksX2_within_1 24 rfl rfl
theorem dksX2_within_3 : cX2_within.data.toList.drop 70 = dktX2_within_3 := dk_seg dksX2_within_2 22 rfl rfl
theorem dksX2_within_4 : cX2_within.data.toList.drop 94 = dktX2_within_4 := dk_seg dksX2_within_3 24 rfl rfl
theorem dX2_within_0 : decode cX2_within 0 = .ok (.aload_n 0, 1) := dk_42 (dk_at dksX2_within_0 0 rfl rfl)
theorem dX2_within_1 : decode cX2_within 1 = .ok (.invokevirtual 43, 3) := dk_182 0 43 (dk_at dksX2_within_0 1 rfl rfl)
theorem dX2_within_4 : decode cX2_within 4 = .ok (.bipush 40, 2) := dk_16 40 (dk_at dksX2_within_0 4 rfl rfl)
theorem dX2_within_6 : decode cX2_within 6 = .ok (.if_icmp .eq 13, 3) := dk_159 0 13 (dk_at dksX2_within_0 6 rfl rfl)
theorem dX2_within_9 : decode cX2_within 9 = .ok (.aload_n 0, 1) := dk_42 (dk_at dksX2_within_0 9 rfl rfl)
theorem dX2_within_10 : decode cX2_within 10 = .ok (.iconst 1, 1) := dk_4 (dk_at dksX2_within_0 10 rfl rfl)
theorem dX2_within_11 : decode cX2_within 11 = .ok (.aload_n 0, 1) := dk_42 (dk_at dksX2_within_0 11 rfl rfl)
theorem dX2_within_12 : decode cX2_within 12 = .ok (.getfield 36, 3) := dk_180 0 36 (dk_at dksX2_within_0 12 rfl rfl)
theorem dX2_within_15 : decode cX2_within 15 = .ok (.invokevirtual 47, 3) := dk_182 0 47 (dk_at dksX2_within_0 15 rfl rfl)
theorem dX2_within_18 : decode cX2_within 18 = .ok (.athrow, 1) := dk_191 (dk_at dksX2_within_0 18 rfl rfl)
theorem dX2_within_19 : decode cX2_within 19 = .ok (.aload_n 0, 1) := dk_42 (dk_at dksX2_within_0 19 rfl rfl)
theorem dX2_within_20 : decode cX2_within 20 = .ok (.aload_n 0, 1) := dk_42 (dk_at dksX2_within_0 20 rfl rfl)
theorem dX2_within_21 : decode cX2_within 21 = .ok (.getfield 36, 3) := dk_180 0 36 (dk_at dksX2_within_0 21 rfl rfl)
theorem dX2_within_24 : decode cX2_within 24 = .ok (.invokevirtual 243, 3) := dk_182 0 243 (dk_at dksX2_within_1 0 rfl rfl)
theorem dX2_within_27 : decode cX2_within 27 = .ok (.aload_n 0, 1) := dk_42 (dk_at dksX2_within_1 3 rfl rfl)
theorem dX2_within_28 : decode cX2_within 28 = .ok (.dup, 1) := dk_89 (dk_at dksX2_within_1 4 rfl rfl)
theorem dX2_within_29 : decode cX2_within 29 = .ok (.getfield 36, 3) := dk_180 0 36 (dk_at dksX2_within_1 5 rfl rfl)
theorem dX2_within_32 : decode cX2_within 32 = .ok (.iconst 1, 1) := dk_4 (dk_at dksX2_within_1 8 rfl rfl)
theorem dX2_within_33 : decode cX2_within 33 = .ok (.iadd, 1) := dk_96 (dk_at dksX2_within_1 9 rfl rfl)
theorem dX2_within_34 : decode cX2_within 34 = .ok (.putfield 36, 3) := dk_181 0 36 (dk_at dksX2_within_1 10 rfl rfl)
theorem dX2_within_37 : decode cX2_within 37 = .ok (.aload_n 0, 1) := dk_42 (dk_at dksX2_within_1 13 rfl rfl)
theorem dX2_within_38 : decode cX2_within 38 = .ok (.invokevirtual 199, 3) := dk_182 0 199 (dk_at dksX2_within_1 14 rfl rfl)
theorem dX2_within_41 : decode cX2_within 41 = .ok (.astore_n 2, 1) := dk_77 (dk_at dksX2_within_1 17 rfl rfl)
theorem dX2_within_42 : decode cX2_within 42 = .ok (.aload_n 2, 1) := dk_44 (dk_at dksX2_within_1 18 rfl rfl)
theorem dX2_within_43 : decode cX2_within 43 = .ok (.astore_n 3, 1) := dk_78 (dk_at dksX2_within_1 19 rfl rfl)
theorem dX2_within_44 : decode cX2_within 44 = .ok (.iload_n 1, 1) := dk_27 (dk_at dksX2_within_1 20 rfl rfl)
theorem dX2_within_45 : decode cX2_within 45 = .ok (.ifCond .le 32, 3) := dk_158 0 32 (dk_at dksX2_within_1 21 rfl rfl)
theorem dX2_within_48 : decode cX2_within 48 = .ok (.aload_n 0, 1) := dk_42 (dk_at dksX2_within_2 0 rfl rfl)
theorem dX2_within_49 : decode cX2_within 49 = .ok (.bipush 44, 2) := dk_16 44 (dk_at dksX2_within_2 1 rfl rfl)
theorem dX2_within_51 : decode cX2_within 51 = .ok (.invokevirtual 121, 3) := dk_182 0 121 (dk_at dksX2_within_2 3 rfl rfl)
theorem dX2_within_54 : decode cX2_within 54 = .ok (.new 246, 3) := dk_187 0 246 (dk_at dksX2_within_2 6 rfl rfl)
theorem dX2_within_57 : decode cX2_within 57 = .ok (.dup, 1) := dk_89 (dk_at dksX2_within_2 9 rfl rfl)
theorem dX2_within_58 : decode cX2_within 58 = .ok (.iload_n 1, 1) := dk_27 (dk_at dksX2_within_2 10 rfl rfl)
theorem dX2_within_59 : decode cX2_within 59 = .ok (.iconst 2, 1) := dk_5 (dk_at dksX2_within_2 11 rfl rfl)
theorem dX2_within_60 : decode cX2_within 60 = .ok (.if_icmp .ne 7, 3) := dk_160 0 7 (dk_at dksX2_within_2 12 rfl rfl)
theorem dX2_within_63 : decode cX2_within 63 = .ok (.iconst 1, 1) := dk_4 (dk_at dksX2_within_2 15 rfl rfl)
theorem dX2_within_64 : decode cX2_within 64 = .ok (.goto 4, 3) := dk_167 0 4 (dk_at dksX2_within_2 16 rfl rfl)
theorem dX2_within_67 : decode cX2_within 67 = .ok (.iconst 0, 1) := dk_3 (dk_at dksX2_within_2 19 rfl rfl)
theorem dX2_within_68 : decode cX2_within 68 = .ok (.aload_n 2, 1) := dk_44 (dk_at dksX2_within_2 20 rfl rfl)
theorem dX2_within_69 : decode cX2_within 69 = .ok (.aload_n 0, 1) := dk_42 (dk_at dksX2_within_2 21 rfl rfl)
theorem dX2_within_70 : decode cX2_within 70 = .ok (.invokevirtual 199, 3) := dk_182 0 199 (dk_at dksX2_within_3 0 rfl rfl)
theorem dX2_within_73 : decode cX2_within 73 = .ok (.invokespecial 248, 3) := dk_183 0 248 (dk_at dksX2_within_3 3 rfl rfl)
theorem dX2_within_76 : decode cX2_within 76 = .ok (.astore_n 3, 1) := dk_78 (dk_at dksX2_within_3 6 rfl rfl)
theorem dX2_within_77 : decode cX2_within 77 = .ok (.aload_n 0, 1) := dk_42 (dk_at dksX2_within_3 7 rfl rfl)
theorem dX2_within_78 : decode cX2_within 78 = .ok (.bipush 41, 2) := dk_16 41 (dk_at dksX2_within_3 8 rfl rfl)
theorem dX2_within_80 : decode cX2_within 80 = .ok (.invokevirtual 121, 3) := dk_182 0 121 (dk_at dksX2_within_3 10 rfl rfl)
theorem dX2_within_83 : decode cX2_within 83 = .ok (.aload_n 0, 1) := dk_42 (dk_at dksX2_within_3 13 rfl rfl)
theorem dX2_within_84 : decode cX2_within 84 = .ok (.dup, 1) := dk_89 (dk_at dksX2_within_3 14 rfl rfl)
theorem dX2_within_85 : decode cX2_within 85 = .ok (.getfield 114, 3) := dk_180 0 114 (dk_at dksX2_within_3 15 rfl rfl)
theorem dX2_within_88 : decode cX2_within 88 = .ok (.iconst 1, 1) := dk_4 (dk_at dksX2_within_3 18 rfl rfl)
theorem dX2_within_89 : decode cX2_within 89 = .ok (.isub, 1) := dk_100 (dk_at dksX2_within_3 19 rfl rfl)
theorem dX2_within_90 : decode cX2_within 90 = .ok (.putfield 114, 3) := dk_181 0 114 (dk_at dksX2_within_3 20 rfl rfl)
theorem dX2_within_93 : decode cX2_within 93 = .ok (.aload_n 3, 1) := dk_45 (dk_at dksX2_within_3 23 rfl rfl)
theorem dX2_within_94 : decode cX2_within 94 = .ok (.areturn, 1) := dk_176 (dk_at dksX2_within_4 0 rfl rfl)
abbrev cX2_looked : ByteArray := prog_16_method_28_code
def yX2_looked : MethodName := ⟨RX2, "looked", "(I)LVerbAtDusk$Value;"⟩
def dkwX2_looked_1 : List UInt8 := [77, 42, 89, 180, 0, 114, 4, 100, 181, 0, 114, 44, 176]
abbrev dktX2_looked_1 : List UInt8 := dkwX2_looked_1 ++ []
def dkwX2_looked_0 : List UInt8 := [42, 42, 180, 0, 61, 182, 0, 243, 187, 1, 59, 89, 42, 180, 0, 3, 27, 42, 182, 0, 240, 183, 1, 61]
abbrev dktX2_looked_0 : List UInt8 := dkwX2_looked_0 ++ dktX2_looked_1
theorem dksX2_looked_0 : cX2_looked.data.toList.drop 0 = dktX2_looked_0 := by decide +kernel
theorem dksX2_looked_1 : cX2_looked.data.toList.drop 24 = dktX2_looked_1 := dk_seg dksX2_looked_0 24 rfl rfl
theorem dX2_looked_0 : decode cX2_looked 0 = .ok (.aload_n 0, 1) := dk_42 (dk_at dksX2_looked_0 0 rfl rfl)
theorem dX2_looked_1 : decode cX2_looked 1 = .ok (.aload_n 0, 1) := dk_42 (dk_at dksX2_looked_0 1 rfl rfl)
theorem dX2_looked_2 : decode cX2_looked 2 = .ok (.getfield 61, 3) := dk_180 0 61 (dk_at dksX2_looked_0 2 rfl rfl)
theorem dX2_looked_5 : decode cX2_looked 5 = .ok (.invokevirtual 243, 3) := dk_182 0 243 (dk_at dksX2_looked_0 5 rfl rfl)
theorem dX2_looked_8 : decode cX2_looked 8 = .ok (.new 315, 3) := dk_187 1 59 (dk_at dksX2_looked_0 8 rfl rfl)
theorem dX2_looked_11 : decode cX2_looked 11 = .ok (.dup, 1) := dk_89 (dk_at dksX2_looked_0 11 rfl rfl)
theorem dX2_looked_12 : decode cX2_looked 12 = .ok (.aload_n 0, 1) := dk_42 (dk_at dksX2_looked_0 12 rfl rfl)
theorem dX2_looked_13 : decode cX2_looked 13 = .ok (.getfield 3, 3) := dk_180 0 3 (dk_at dksX2_looked_0 13 rfl rfl)
theorem dX2_looked_16 : decode cX2_looked 16 = .ok (.iload_n 1, 1) := dk_27 (dk_at dksX2_looked_0 16 rfl rfl)
theorem dX2_looked_17 : decode cX2_looked 17 = .ok (.aload_n 0, 1) := dk_42 (dk_at dksX2_looked_0 17 rfl rfl)
theorem dX2_looked_18 : decode cX2_looked 18 = .ok (.invokevirtual 240, 3) := dk_182 0 240 (dk_at dksX2_looked_0 18 rfl rfl)
theorem dX2_looked_21 : decode cX2_looked 21 = .ok (.invokespecial 317, 3) := dk_183 1 61 (dk_at dksX2_looked_0 21 rfl rfl)
theorem dX2_looked_24 : decode cX2_looked 24 = .ok (.astore_n 2, 1) := dk_77 (dk_at dksX2_looked_1 0 rfl rfl)
theorem dX2_looked_25 : decode cX2_looked 25 = .ok (.aload_n 0, 1) := dk_42 (dk_at dksX2_looked_1 1 rfl rfl)
theorem dX2_looked_26 : decode cX2_looked 26 = .ok (.dup, 1) := dk_89 (dk_at dksX2_looked_1 2 rfl rfl)
theorem dX2_looked_27 : decode cX2_looked 27 = .ok (.getfield 114, 3) := dk_180 0 114 (dk_at dksX2_looked_1 3 rfl rfl)
theorem dX2_looked_30 : decode cX2_looked 30 = .ok (.iconst 1, 1) := dk_4 (dk_at dksX2_looked_1 6 rfl rfl)
theorem dX2_looked_31 : decode cX2_looked 31 = .ok (.isub, 1) := dk_100 (dk_at dksX2_looked_1 7 rfl rfl)
theorem dX2_looked_32 : decode cX2_looked 32 = .ok (.putfield 114, 3) := dk_181 0 114 (dk_at dksX2_looked_1 8 rfl rfl)
theorem dX2_looked_35 : decode cX2_looked 35 = .ok (.aload_n 2, 1) := dk_44 (dk_at dksX2_looked_1 11 rfl rfl)
theorem dX2_looked_36 : decode cX2_looked 36 = .ok (.areturn, 1) := dk_176 (dk_at dksX2_looked_1 12 rfl rfl)
abbrev cX2_takes : ByteArray := prog_16_method_19_code
def yX2_takes : MethodName := ⟨RX2, "takes", "(I)Z"⟩
def dkwX2_takes_1 : List UInt8 := [167, 0, 4, 3, 96, 181, 0, 36, 28, 172]
abbrev dktX2_takes_1 : List UInt8 := dkwX2_takes_1 ++ []
def dkwX2_takes_0 : List UInt8 := [42, 182, 0, 43, 27, 160, 0, 7, 4, 167, 0, 4, 3, 61, 42, 89, 180, 0, 36, 28, 153, 0, 7, 4]
abbrev dktX2_takes_0 : List UInt8 := dkwX2_takes_0 ++ dktX2_takes_1
theorem dksX2_takes_0 : cX2_takes.data.toList.drop 0 = dktX2_takes_0 := by decide +kernel
theorem dksX2_takes_1 : cX2_takes.data.toList.drop 24 = dktX2_takes_1 := dk_seg dksX2_takes_0 24 rfl rfl
theorem dX2_takes_0 : decode cX2_takes 0 = .ok (.aload_n 0, 1) := dk_42 (dk_at dksX2_takes_0 0 rfl rfl)
theorem dX2_takes_1 : decode cX2_takes 1 = .ok (.invokevirtual 43, 3) := dk_182 0 43 (dk_at dksX2_takes_0 1 rfl rfl)
theorem dX2_takes_4 : decode cX2_takes 4 = .ok (.iload_n 1, 1) := dk_27 (dk_at dksX2_takes_0 4 rfl rfl)
theorem dX2_takes_5 : decode cX2_takes 5 = .ok (.if_icmp .ne 7, 3) := dk_160 0 7 (dk_at dksX2_takes_0 5 rfl rfl)
theorem dX2_takes_8 : decode cX2_takes 8 = .ok (.iconst 1, 1) := dk_4 (dk_at dksX2_takes_0 8 rfl rfl)
theorem dX2_takes_9 : decode cX2_takes 9 = .ok (.goto 4, 3) := dk_167 0 4 (dk_at dksX2_takes_0 9 rfl rfl)
theorem dX2_takes_12 : decode cX2_takes 12 = .ok (.iconst 0, 1) := dk_3 (dk_at dksX2_takes_0 12 rfl rfl)
theorem dX2_takes_13 : decode cX2_takes 13 = .ok (.istore_n 2, 1) := dk_61 (dk_at dksX2_takes_0 13 rfl rfl)
theorem dX2_takes_14 : decode cX2_takes 14 = .ok (.aload_n 0, 1) := dk_42 (dk_at dksX2_takes_0 14 rfl rfl)
theorem dX2_takes_15 : decode cX2_takes 15 = .ok (.dup, 1) := dk_89 (dk_at dksX2_takes_0 15 rfl rfl)
theorem dX2_takes_16 : decode cX2_takes 16 = .ok (.getfield 36, 3) := dk_180 0 36 (dk_at dksX2_takes_0 16 rfl rfl)
theorem dX2_takes_19 : decode cX2_takes 19 = .ok (.iload_n 2, 1) := dk_28 (dk_at dksX2_takes_0 19 rfl rfl)
theorem dX2_takes_20 : decode cX2_takes 20 = .ok (.ifCond .eq 7, 3) := dk_153 0 7 (dk_at dksX2_takes_0 20 rfl rfl)
theorem dX2_takes_23 : decode cX2_takes 23 = .ok (.iconst 1, 1) := dk_4 (dk_at dksX2_takes_0 23 rfl rfl)
theorem dX2_takes_24 : decode cX2_takes 24 = .ok (.goto 4, 3) := dk_167 0 4 (dk_at dksX2_takes_1 0 rfl rfl)
theorem dX2_takes_27 : decode cX2_takes 27 = .ok (.iconst 0, 1) := dk_3 (dk_at dksX2_takes_1 3 rfl rfl)
theorem dX2_takes_28 : decode cX2_takes 28 = .ok (.iadd, 1) := dk_96 (dk_at dksX2_takes_1 4 rfl rfl)
theorem dX2_takes_29 : decode cX2_takes 29 = .ok (.putfield 36, 3) := dk_181 0 36 (dk_at dksX2_takes_1 5 rfl rfl)
theorem dX2_takes_32 : decode cX2_takes 32 = .ok (.iload_n 2, 1) := dk_28 (dk_at dksX2_takes_1 8 rfl rfl)
theorem dX2_takes_33 : decode cX2_takes 33 = .ok (.ireturn, 1) := dk_172 (dk_at dksX2_takes_1 9 rfl rfl)
abbrev cX2_once : ByteArray := prog_16_method_17_code
def yX2_once : MethodName := ⟨RX2, "once", "(LVerbAtDusk$Value;I)LVerbAtDusk$Value;"⟩
def dkwX2_once_1 : List UInt8 := [176]
abbrev dktX2_once_1 : List UInt8 := dkwX2_once_1 ++ []
def dkwX2_once_0 : List UInt8 := [42, 43, 198, 0, 7, 4, 167, 0, 4, 3, 28, 182, 0, 128, 42, 16, 31, 181, 0, 196, 42, 182, 0, 199]
abbrev dktX2_once_0 : List UInt8 := dkwX2_once_0 ++ dktX2_once_1
theorem dksX2_once_0 : cX2_once.data.toList.drop 0 = dktX2_once_0 := by decide +kernel
theorem dksX2_once_1 : cX2_once.data.toList.drop 24 = dktX2_once_1 := dk_seg dksX2_once_0 24 rfl rfl
theorem dX2_once_0 : decode cX2_once 0 = .ok (.aload_n 0, 1) := dk_42 (dk_at dksX2_once_0 0 rfl rfl)
theorem dX2_once_1 : decode cX2_once 1 = .ok (.aload_n 1, 1) := dk_43 (dk_at dksX2_once_0 1 rfl rfl)
theorem dX2_once_2 : decode cX2_once 2 = .ok (.ifnull 7, 3) := dk_198 0 7 (dk_at dksX2_once_0 2 rfl rfl)
theorem dX2_once_5 : decode cX2_once 5 = .ok (.iconst 1, 1) := dk_4 (dk_at dksX2_once_0 5 rfl rfl)
theorem dX2_once_6 : decode cX2_once 6 = .ok (.goto 4, 3) := dk_167 0 4 (dk_at dksX2_once_0 6 rfl rfl)
theorem dX2_once_9 : decode cX2_once 9 = .ok (.iconst 0, 1) := dk_3 (dk_at dksX2_once_0 9 rfl rfl)
theorem dX2_once_10 : decode cX2_once 10 = .ok (.iload_n 2, 1) := dk_28 (dk_at dksX2_once_0 10 rfl rfl)
theorem dX2_once_11 : decode cX2_once 11 = .ok (.invokevirtual 128, 3) := dk_182 0 128 (dk_at dksX2_once_0 11 rfl rfl)
theorem dX2_once_14 : decode cX2_once 14 = .ok (.aload_n 0, 1) := dk_42 (dk_at dksX2_once_0 14 rfl rfl)
theorem dX2_once_15 : decode cX2_once 15 = .ok (.bipush 31, 2) := dk_16 31 (dk_at dksX2_once_0 15 rfl rfl)
theorem dX2_once_17 : decode cX2_once 17 = .ok (.putfield 196, 3) := dk_181 0 196 (dk_at dksX2_once_0 17 rfl rfl)
theorem dX2_once_20 : decode cX2_once 20 = .ok (.aload_n 0, 1) := dk_42 (dk_at dksX2_once_0 20 rfl rfl)
theorem dX2_once_21 : decode cX2_once 21 = .ok (.invokevirtual 199, 3) := dk_182 0 199 (dk_at dksX2_once_0 21 rfl rfl)
theorem dX2_once_24 : decode cX2_once 24 = .ok (.areturn, 1) := dk_176 (dk_at dksX2_once_1 0 rfl rfl)
abbrev cX2_question : ByteArray := prog_16_method_29_code
def yX2_question : MethodName := ⟨RX2, "question", "(I)LVerbAtDusk$Question;"⟩
def dkwX2_question_4 : List UInt8 := [42, 180, 0, 36, 182, 0, 47, 191, 45, 176]
abbrev dktX2_question_4 : List UInt8 := dkwX2_question_4 ++ []
def dkwX2_question_3 : List UInt8 := [187, 1, 67, 89, 28, 1, 42, 182, 0, 199, 183, 1, 69, 78, 42, 182, 0, 43, 2, 159, 0, 13, 42, 4]
abbrev dktX2_question_3 : List UInt8 := dkwX2_question_3 ++ dktX2_question_4
def dkwX2_question_2 : List UInt8 := [191, 28, 6, 162, 0, 19, 187, 1, 67, 89, 28, 42, 182, 0, 214, 1, 183, 1, 69, 167, 0, 16]
abbrev dktX2_question_2 : List UInt8 := dkwX2_question_2 ++ dktX2_question_3
def dkwX2_question_1 : List UInt8 := [182, 0, 70, 178, 1, 64, 184, 0, 82, 61, 28, 2, 160, 0, 13, 42, 4, 42, 180, 0, 61, 182, 0, 47]
abbrev dktX2_question_1 : List UInt8 := dkwX2_question_1 ++ dktX2_question_2
def dkwX2_question_0 : List UInt8 := [42, 27, 181, 0, 29, 42, 3, 181, 0, 36, 42, 3, 181, 0, 114, 42, 17, 1, 241, 181, 0, 196, 42]
abbrev dktX2_question_0 : List UInt8 := dkwX2_question_0 ++ dktX2_question_1
theorem dksX2_question_0 : cX2_question.data.toList.drop 0 = dktX2_question_0 := by decide +kernel
theorem dksX2_question_1 : cX2_question.data.toList.drop 23 = dktX2_question_1 := dk_seg dksX2_question_0 23 rfl rfl
theorem dksX2_question_2 : cX2_question.data.toList.drop 47 = dktX2_question_2 := dk_seg dksX2_question_1 24 rfl rfl
theorem dksX2_question_3 : cX2_question.data.toList.drop 69 = dktX2_question_3 := dk_seg dksX2_question_2 22 rfl rfl
theorem dksX2_question_4 : cX2_question.data.toList.drop 93 = dktX2_question_4 := dk_seg dksX2_question_3 24 rfl rfl
theorem dX2_question_0 : decode cX2_question 0 = .ok (.aload_n 0, 1) := dk_42 (dk_at dksX2_question_0 0 rfl rfl)
theorem dX2_question_1 : decode cX2_question 1 = .ok (.iload_n 1, 1) := dk_27 (dk_at dksX2_question_0 1 rfl rfl)
theorem dX2_question_2 : decode cX2_question 2 = .ok (.putfield 29, 3) := dk_181 0 29 (dk_at dksX2_question_0 2 rfl rfl)
theorem dX2_question_5 : decode cX2_question 5 = .ok (.aload_n 0, 1) := dk_42 (dk_at dksX2_question_0 5 rfl rfl)
theorem dX2_question_6 : decode cX2_question 6 = .ok (.iconst 0, 1) := dk_3 (dk_at dksX2_question_0 6 rfl rfl)
theorem dX2_question_7 : decode cX2_question 7 = .ok (.putfield 36, 3) := dk_181 0 36 (dk_at dksX2_question_0 7 rfl rfl)
theorem dX2_question_10 : decode cX2_question 10 = .ok (.aload_n 0, 1) := dk_42 (dk_at dksX2_question_0 10 rfl rfl)
theorem dX2_question_11 : decode cX2_question 11 = .ok (.iconst 0, 1) := dk_3 (dk_at dksX2_question_0 11 rfl rfl)
theorem dX2_question_12 : decode cX2_question 12 = .ok (.putfield 114, 3) := dk_181 0 114 (dk_at dksX2_question_0 12 rfl rfl)
theorem dX2_question_15 : decode cX2_question 15 = .ok (.aload_n 0, 1) := dk_42 (dk_at dksX2_question_0 15 rfl rfl)
theorem dX2_question_16 : decode cX2_question 16 = .ok (.sipush 497, 3) := dk_17 1 241 (dk_at dksX2_question_0 16 rfl rfl)
theorem dX2_question_19 : decode cX2_question 19 = .ok (.putfield 196, 3) := dk_181 0 196 (dk_at dksX2_question_0 19 rfl rfl)
theorem dX2_question_22 : decode cX2_question 22 = .ok (.aload_n 0, 1) := dk_42 (dk_at dksX2_question_0 22 rfl rfl)
theorem dX2_question_23 : decode cX2_question 23 = .ok (.invokevirtual 70, 3) := dk_182 0 70 (dk_at dksX2_question_1 0 rfl rfl)
theorem dX2_question_26 : decode cX2_question 26 = .ok (.getstatic 320, 3) := dk_178 1 64 (dk_at dksX2_question_1 3 rfl rfl)
theorem dX2_question_29 : decode cX2_question 29 = .ok (.invokestatic 82, 3) := dk_184 0 82 (dk_at dksX2_question_1 6 rfl rfl)
theorem dX2_question_32 : decode cX2_question 32 = .ok (.istore_n 2, 1) := dk_61 (dk_at dksX2_question_1 9 rfl rfl)
theorem dX2_question_33 : decode cX2_question 33 = .ok (.iload_n 2, 1) := dk_28 (dk_at dksX2_question_1 10 rfl rfl)
theorem dX2_question_34 : decode cX2_question 34 = .ok (.iconst (-1), 1) := dk_2 (dk_at dksX2_question_1 11 rfl rfl)
theorem dX2_question_35 : decode cX2_question 35 = .ok (.if_icmp .ne 13, 3) := dk_160 0 13 (dk_at dksX2_question_1 12 rfl rfl)
theorem dX2_question_38 : decode cX2_question 38 = .ok (.aload_n 0, 1) := dk_42 (dk_at dksX2_question_1 15 rfl rfl)
theorem dX2_question_39 : decode cX2_question 39 = .ok (.iconst 1, 1) := dk_4 (dk_at dksX2_question_1 16 rfl rfl)
theorem dX2_question_40 : decode cX2_question 40 = .ok (.aload_n 0, 1) := dk_42 (dk_at dksX2_question_1 17 rfl rfl)
theorem dX2_question_41 : decode cX2_question 41 = .ok (.getfield 61, 3) := dk_180 0 61 (dk_at dksX2_question_1 18 rfl rfl)
theorem dX2_question_44 : decode cX2_question 44 = .ok (.invokevirtual 47, 3) := dk_182 0 47 (dk_at dksX2_question_1 21 rfl rfl)
theorem dX2_question_47 : decode cX2_question 47 = .ok (.athrow, 1) := dk_191 (dk_at dksX2_question_2 0 rfl rfl)
theorem dX2_question_48 : decode cX2_question 48 = .ok (.iload_n 2, 1) := dk_28 (dk_at dksX2_question_2 1 rfl rfl)
theorem dX2_question_49 : decode cX2_question 49 = .ok (.iconst 3, 1) := dk_6 (dk_at dksX2_question_2 2 rfl rfl)
theorem dX2_question_50 : decode cX2_question 50 = .ok (.if_icmp .ge 19, 3) := dk_162 0 19 (dk_at dksX2_question_2 3 rfl rfl)
theorem dX2_question_53 : decode cX2_question 53 = .ok (.new 323, 3) := dk_187 1 67 (dk_at dksX2_question_2 6 rfl rfl)
theorem dX2_question_56 : decode cX2_question 56 = .ok (.dup, 1) := dk_89 (dk_at dksX2_question_2 9 rfl rfl)
theorem dX2_question_57 : decode cX2_question 57 = .ok (.iload_n 2, 1) := dk_28 (dk_at dksX2_question_2 10 rfl rfl)
theorem dX2_question_58 : decode cX2_question 58 = .ok (.aload_n 0, 1) := dk_42 (dk_at dksX2_question_2 11 rfl rfl)
theorem dX2_question_59 : decode cX2_question 59 = .ok (.invokevirtual 214, 3) := dk_182 0 214 (dk_at dksX2_question_2 12 rfl rfl)
theorem dX2_question_62 : decode cX2_question 62 = .ok (.aconst_null, 1) := dk_1 (dk_at dksX2_question_2 15 rfl rfl)
theorem dX2_question_63 : decode cX2_question 63 = .ok (.invokespecial 325, 3) := dk_183 1 69 (dk_at dksX2_question_2 16 rfl rfl)
theorem dX2_question_66 : decode cX2_question 66 = .ok (.goto 16, 3) := dk_167 0 16 (dk_at dksX2_question_2 19 rfl rfl)
theorem dX2_question_69 : decode cX2_question 69 = .ok (.new 323, 3) := dk_187 1 67 (dk_at dksX2_question_3 0 rfl rfl)
theorem dX2_question_72 : decode cX2_question 72 = .ok (.dup, 1) := dk_89 (dk_at dksX2_question_3 3 rfl rfl)
theorem dX2_question_73 : decode cX2_question 73 = .ok (.iload_n 2, 1) := dk_28 (dk_at dksX2_question_3 4 rfl rfl)
theorem dX2_question_74 : decode cX2_question 74 = .ok (.aconst_null, 1) := dk_1 (dk_at dksX2_question_3 5 rfl rfl)
theorem dX2_question_75 : decode cX2_question 75 = .ok (.aload_n 0, 1) := dk_42 (dk_at dksX2_question_3 6 rfl rfl)
theorem dX2_question_76 : decode cX2_question 76 = .ok (.invokevirtual 199, 3) := dk_182 0 199 (dk_at dksX2_question_3 7 rfl rfl)
theorem dX2_question_79 : decode cX2_question 79 = .ok (.invokespecial 325, 3) := dk_183 1 69 (dk_at dksX2_question_3 10 rfl rfl)
theorem dX2_question_82 : decode cX2_question 82 = .ok (.astore_n 3, 1) := dk_78 (dk_at dksX2_question_3 13 rfl rfl)
theorem dX2_question_83 : decode cX2_question 83 = .ok (.aload_n 0, 1) := dk_42 (dk_at dksX2_question_3 14 rfl rfl)
theorem dX2_question_84 : decode cX2_question 84 = .ok (.invokevirtual 43, 3) := dk_182 0 43 (dk_at dksX2_question_3 15 rfl rfl)
theorem dX2_question_87 : decode cX2_question 87 = .ok (.iconst (-1), 1) := dk_2 (dk_at dksX2_question_3 18 rfl rfl)
theorem dX2_question_88 : decode cX2_question 88 = .ok (.if_icmp .eq 13, 3) := dk_159 0 13 (dk_at dksX2_question_3 19 rfl rfl)
theorem dX2_question_91 : decode cX2_question 91 = .ok (.aload_n 0, 1) := dk_42 (dk_at dksX2_question_3 22 rfl rfl)
theorem dX2_question_92 : decode cX2_question 92 = .ok (.iconst 1, 1) := dk_4 (dk_at dksX2_question_3 23 rfl rfl)
theorem dX2_question_93 : decode cX2_question 93 = .ok (.aload_n 0, 1) := dk_42 (dk_at dksX2_question_4 0 rfl rfl)
theorem dX2_question_94 : decode cX2_question 94 = .ok (.getfield 36, 3) := dk_180 0 36 (dk_at dksX2_question_4 1 rfl rfl)
theorem dX2_question_97 : decode cX2_question 97 = .ok (.invokevirtual 47, 3) := dk_182 0 47 (dk_at dksX2_question_4 4 rfl rfl)
theorem dX2_question_100 : decode cX2_question 100 = .ok (.athrow, 1) := dk_191 (dk_at dksX2_question_4 7 rfl rfl)
theorem dX2_question_101 : decode cX2_question 101 = .ok (.aload_n 3, 1) := dk_45 (dk_at dksX2_question_4 8 rfl rfl)
theorem dX2_question_102 : decode cX2_question 102 = .ok (.areturn, 1) := dk_176 (dk_at dksX2_question_4 9 rfl rfl)
theorem q152 : (Jvm.Cond.initialized "VerbAtDusk$Reader") ∈ lw_all := lw_g (lw_at lw_m1 6 rfl) rfl
theorem q232 : (Jvm.Cond.fieldLinkNest "VerbAtDusk$Reader" (125 : Nat) "VerbAtDusk$Country" "statements" "I" "VerbAtDusk") ∈ lw_tbl := lw_at lw_m1 86 rfl
theorem q234 : (Jvm.Cond.fieldLinkNest "VerbAtDusk$Reader" (119 : Nat) "VerbAtDusk$Country" "dusk" "I" "VerbAtDusk") ∈ lw_tbl := lw_at lw_m1 88 rfl
theorem q237 : (Jvm.Cond.fieldLinkNest "VerbAtDusk$Reader" (190 : Nat) "VerbAtDusk$Country" "lent" "I" "VerbAtDusk") ∈ lw_tbl := lw_at lw_m1 91 rfl
theorem q238 : (Jvm.Cond.fieldLinkNest "VerbAtDusk$Reader" (227 : Nat) "VerbAtDusk$Country" "ditch" "I" "VerbAtDusk") ∈ lw_tbl := lw_at lw_m1 92 rfl
theorem q243 : (Jvm.Cond.fieldLinkNest "VerbAtDusk$Reader" (149 : Nat) "VerbAtDusk$Country" "sayings" "Ljava/util/List;" "VerbAtDusk") ∈ lw_tbl := lw_at lw_m1 97 rfl
theorem q246 : (Jvm.Cond.fieldLinkNest "VerbAtDusk$Reader" (174 : Nat) "VerbAtDusk$Country" "verbs" "Ljava/util/List;" "VerbAtDusk") ∈ lw_tbl := lw_at lw_m1 100 rfl
theorem q249 : (Jvm.Cond.fieldLinkNest "VerbAtDusk$Reader" (211 : Nat) "VerbAtDusk$Country" "takes" "LVerbAtDusk$Test;" "VerbAtDusk") ∈ lw_tbl := lw_at lw_m1 103 rfl
theorem q251 : (Jvm.Cond.fieldLinkNest "VerbAtDusk$Reader" (218 : Nat) "VerbAtDusk$Country" "well" "LVerbAtDusk$Value;" "VerbAtDusk") ∈ lw_tbl := lw_at lw_m1 105 rfl
theorem q253 : (Jvm.Cond.fieldLinkNest "VerbAtDusk$Reader" (225 : Nat) "VerbAtDusk$Country" "turns" "LVerbAtDusk$Value;" "VerbAtDusk") ∈ lw_tbl := lw_at lw_m1 107 rfl
theorem q274 : (Jvm.Cond.instantiable "VerbAtDusk$Reader" (8 : Nat)) ∈ lw_all := lw_g (lw_at lw_m1 128 rfl) rfl
theorem q276 : (Jvm.Cond.instanceMethod ({ cls := "VerbAtDusk$Reader", name := "<init>", desc := "(LVerbAtDusk;)V" } : Jvm.MethodName)) ∈ lw_all := lw_g (lw_at lw_m1 130 rfl) rfl
theorem q277 : (Jvm.Cond.code ({ cls := "VerbAtDusk$Reader", name := "<init>", desc := "(LVerbAtDusk;)V" } : Jvm.MethodName) prog_16_method_1_code (2 : Nat) (Option.none : Option Jvm.ClassFile.FieldType)) ∈ lw_all := lw_g (lw_at lw_m1 131 rfl) rfl
theorem q278 : (Jvm.Cond.methodLink "VerbAtDusk$Reader" (9 : Nat) ({ cls := "java/lang/Object", name := "<init>", desc := "()V" } : Jvm.MethodName)) ∈ lw_all := lw_g (lw_at lw_m1 132 rfl) rfl
theorem q279 : (Jvm.Cond.classLink "VerbAtDusk$Reader" (15 : Nat) "VerbAtDusk$Fault") ∈ lw_all := lw_g (lw_at lw_m1 133 rfl) rfl
theorem q318 : (Jvm.Cond.methodLink "VerbAtDusk$Reader" (17 : Nat) ({ cls := "VerbAtDusk$Fault", name := "<init>", desc := "()V" } : Jvm.MethodName)) ∈ lw_all := lw_g (lw_at lw_m1 172 rfl) rfl
theorem q330 : (Jvm.Cond.fieldLinkNest "VerbAtDusk$Reader" (22 : Nat) "VerbAtDusk$Fault" "kind" "I" "VerbAtDusk") ∈ lw_tbl := lw_at lw_m1 184 rfl
theorem q332 : (Jvm.Cond.fieldLinkNest "VerbAtDusk$Reader" (26 : Nat) "VerbAtDusk$Fault" "place" "I" "VerbAtDusk") ∈ lw_tbl := lw_at lw_m1 186 rfl
theorem q352 : (Jvm.Cond.fieldLink "VerbAtDusk$Reader" (18 : Nat) "VerbAtDusk$Reader" "fault" "LVerbAtDusk$Fault;") ∈ lw_all := lw_g (lw_at lw_m1 206 rfl) rfl
theorem q353 : (Jvm.Cond.fieldLink "VerbAtDusk$Reader" (29 : Nat) "VerbAtDusk$Reader" "size" "I") ∈ lw_all := lw_g (lw_at lw_m1 207 rfl) rfl
theorem q354 : (Jvm.Cond.fieldLink "VerbAtDusk$Reader" (36 : Nat) "VerbAtDusk$Reader" "at" "I") ∈ lw_all := lw_g (lw_at lw_m1 208 rfl) rfl
theorem q355 : (Jvm.Cond.fieldLink "VerbAtDusk$Reader" (61 : Nat) "VerbAtDusk$Reader" "from" "I") ∈ lw_all := lw_g (lw_at lw_m1 209 rfl) rfl
theorem q356 : (Jvm.Cond.fieldLink "VerbAtDusk$Reader" (114 : Nat) "VerbAtDusk$Reader" "open" "I") ∈ lw_all := lw_g (lw_at lw_m1 210 rfl) rfl
theorem q357 : (Jvm.Cond.fieldLink "VerbAtDusk$Reader" (196 : Nat) "VerbAtDusk$Reader" "context" "I") ∈ lw_all := lw_g (lw_at lw_m1 211 rfl) rfl
theorem q358 : (Jvm.Cond.fieldLink "VerbAtDusk$Reader" (103 : Nat) "VerbAtDusk$Reader" "to" "LVerbAtDusk$Country;") ∈ lw_all := lw_g (lw_at lw_m1 212 rfl) rfl
theorem q359 : (Jvm.Cond.fieldLink "VerbAtDusk$Reader" (3 : Nat) "VerbAtDusk$Reader" "this$0" "LVerbAtDusk;") ∈ lw_all := lw_g (lw_at lw_m1 213 rfl) rfl
theorem q360 : (Jvm.Cond.laysFinal "VerbAtDusk$Reader" "VerbAtDusk$Reader" "fault" "LVerbAtDusk$Fault;") ∈ lw_all := lw_g (lw_at lw_m1 214 rfl) rfl
theorem q361 : (Jvm.Cond.soleField "VerbAtDusk$Reader" "fault") ∈ lw_all := lw_g (lw_at lw_m1 215 rfl) rfl
theorem q362 : (Jvm.Cond.lays "VerbAtDusk$Reader" "VerbAtDusk$Reader" "size" "I") ∈ lw_all := lw_g (lw_at lw_m1 216 rfl) rfl
theorem q363 : (Jvm.Cond.soleField "VerbAtDusk$Reader" "size") ∈ lw_all := lw_g (lw_at lw_m1 217 rfl) rfl
theorem q364 : (Jvm.Cond.lays "VerbAtDusk$Reader" "VerbAtDusk$Reader" "at" "I") ∈ lw_all := lw_g (lw_at lw_m1 218 rfl) rfl
theorem q365 : (Jvm.Cond.soleField "VerbAtDusk$Reader" "at") ∈ lw_all := lw_g (lw_at lw_m1 219 rfl) rfl
theorem q366 : (Jvm.Cond.lays "VerbAtDusk$Reader" "VerbAtDusk$Reader" "from" "I") ∈ lw_all := lw_g (lw_at lw_m1 220 rfl) rfl
theorem q367 : (Jvm.Cond.soleField "VerbAtDusk$Reader" "from") ∈ lw_all := lw_g (lw_at lw_m1 221 rfl) rfl
theorem q368 : (Jvm.Cond.lays "VerbAtDusk$Reader" "VerbAtDusk$Reader" "open" "I") ∈ lw_all := lw_g (lw_at lw_m1 222 rfl) rfl
theorem q369 : (Jvm.Cond.soleField "VerbAtDusk$Reader" "open") ∈ lw_all := lw_g (lw_at lw_m1 223 rfl) rfl
theorem q370 : (Jvm.Cond.lays "VerbAtDusk$Reader" "VerbAtDusk$Reader" "context" "I") ∈ lw_all := lw_g (lw_at lw_m1 224 rfl) rfl
theorem q371 : (Jvm.Cond.soleField "VerbAtDusk$Reader" "context") ∈ lw_all := lw_g (lw_at lw_m1 225 rfl) rfl
theorem q372 : (Jvm.Cond.lays "VerbAtDusk$Reader" "VerbAtDusk$Reader" "to" "LVerbAtDusk$Country;") ∈ lw_all := lw_g (lw_at lw_m1 226 rfl) rfl
theorem q373 : (Jvm.Cond.soleField "VerbAtDusk$Reader" "to") ∈ lw_all := lw_g (lw_at lw_m1 227 rfl) rfl
theorem q374 : (Jvm.Cond.laysFinal "VerbAtDusk$Reader" "VerbAtDusk$Reader" "this$0" "LVerbAtDusk;") ∈ lw_all := lw_g (lw_at lw_m1 228 rfl) rfl
theorem q375 : (Jvm.Cond.soleField "VerbAtDusk$Reader" "this$0") ∈ lw_all := lw_g (lw_at lw_m1 229 rfl) rfl
theorem q376 : (Jvm.Cond.superclass "VerbAtDusk$Reader" "java/lang/Object") ∈ lw_all := lw_g (lw_at lw_m1 230 rfl) rfl
theorem q520 : (Jvm.Cond.fieldLinkNest "VerbAtDusk$Reader" (32 : Nat) "VerbAtDusk" "tape" "[B" "VerbAtDusk") ∈ lw_tbl := lw_at lw_m2 134 rfl
theorem q622 : (Jvm.Cond.instanceMethod ({ cls := "VerbAtDusk$Reader", name := "all", desc := "(I)LVerbAtDusk$Country;" } : Jvm.MethodName)) ∈ lw_all := lw_g (lw_at lw_m2 236 rfl) rfl
theorem q623 : (Jvm.Cond.selects "VerbAtDusk$Reader" ({ cls := "VerbAtDusk$Reader", name := "all", desc := "(I)LVerbAtDusk$Country;" } : Jvm.MethodName) ({ cls := "VerbAtDusk$Reader", name := "all", desc := "(I)LVerbAtDusk$Country;" } : Jvm.MethodName)) ∈ lw_all := lw_g (lw_at lw_m2 237 rfl) rfl
theorem q624 : (Jvm.Cond.code ({ cls := "VerbAtDusk$Reader", name := "all", desc := "(I)LVerbAtDusk$Country;" } : Jvm.MethodName) prog_16_method_15_code (3 : Nat) (Option.some (Jvm.ClassFile.FieldType.object "VerbAtDusk$Country"))) ∈ lw_all := lw_g (lw_at lw_m2 238 rfl) rfl
theorem q625 : (Jvm.Cond.classLink "VerbAtDusk$Reader" (108 : Nat) "VerbAtDusk$Country") ∈ lw_all := lw_g (lw_at lw_m2 239 rfl) rfl
theorem q626 : (Jvm.Cond.methodLinkNest "VerbAtDusk$Reader" (113 : Nat) ({ cls := "VerbAtDusk$Country", name := "<init>", desc := "()V" } : Jvm.MethodName) "VerbAtDusk") ∈ lw_tbl := lw_at lw_m3 0 rfl
theorem q627 : (Jvm.Cond.stringRef "VerbAtDusk$Reader" (117 : Nat) "dusk") ∈ lw_tbl := lw_at lw_m3 1 rfl
theorem q628 : (Jvm.Cond.methodLink "VerbAtDusk$Reader" (93 : Nat) ({ cls := "VerbAtDusk$Reader", name := "word", desc := "(Ljava/lang/String;)V" } : Jvm.MethodName)) ∈ lw_all := lw_g (lw_at lw_m3 2 rfl) rfl
theorem q629 : (Jvm.Cond.privateMethod ({ cls := "VerbAtDusk$Reader", name := "word", desc := "(Ljava/lang/String;)V" } : Jvm.MethodName)) ∈ lw_tbl := lw_at lw_m3 3 rfl
theorem q630 : (Jvm.Cond.instanceMethod ({ cls := "VerbAtDusk$Reader", name := "word", desc := "(Ljava/lang/String;)V" } : Jvm.MethodName)) ∈ lw_all := lw_g (lw_at lw_m3 4 rfl) rfl
theorem q631 : (Jvm.Cond.code ({ cls := "VerbAtDusk$Reader", name := "word", desc := "(Ljava/lang/String;)V" } : Jvm.MethodName) prog_16_method_8_code (2 : Nat) (Option.none : Option Jvm.ClassFile.FieldType)) ∈ lw_all := lw_g (lw_at lw_m3 5 rfl) rfl
theorem q632 : (Jvm.Cond.methodLink "VerbAtDusk$Reader" (70 : Nat) ({ cls := "VerbAtDusk$Reader", name := "word", desc := "()Ljava/lang/String;" } : Jvm.MethodName)) ∈ lw_all := lw_g (lw_at lw_m3 6 rfl) rfl
theorem q633 : (Jvm.Cond.privateMethod ({ cls := "VerbAtDusk$Reader", name := "word", desc := "()Ljava/lang/String;" } : Jvm.MethodName)) ∈ lw_tbl := lw_at lw_m3 7 rfl
theorem q634 : (Jvm.Cond.instanceMethod ({ cls := "VerbAtDusk$Reader", name := "word", desc := "()Ljava/lang/String;" } : Jvm.MethodName)) ∈ lw_all := lw_g (lw_at lw_m3 8 rfl) rfl
theorem q635 : (Jvm.Cond.code ({ cls := "VerbAtDusk$Reader", name := "word", desc := "()Ljava/lang/String;" } : Jvm.MethodName) prog_16_method_7_code (3 : Nat) (Option.some (Jvm.ClassFile.FieldType.object "java/lang/String"))) ∈ lw_all := lw_g (lw_at lw_m3 9 rfl) rfl
theorem q636 : (Jvm.Cond.methodLink "VerbAtDusk$Reader" (43 : Nat) ({ cls := "VerbAtDusk$Reader", name := "here", desc := "()I" } : Jvm.MethodName)) ∈ lw_all := lw_g (lw_at lw_m3 10 rfl) rfl
theorem q637 : (Jvm.Cond.privateMethod ({ cls := "VerbAtDusk$Reader", name := "here", desc := "()I" } : Jvm.MethodName)) ∈ lw_tbl := lw_at lw_m3 11 rfl
theorem q638 : (Jvm.Cond.instanceMethod ({ cls := "VerbAtDusk$Reader", name := "here", desc := "()I" } : Jvm.MethodName)) ∈ lw_all := lw_g (lw_at lw_m3 12 rfl) rfl
theorem q639 : (Jvm.Cond.code ({ cls := "VerbAtDusk$Reader", name := "here", desc := "()I" } : Jvm.MethodName) prog_16_method_4_code (1 : Nat) (Option.some Jvm.ClassFile.FieldType.int)) ∈ lw_all := lw_g (lw_at lw_m3 13 rfl) rfl
theorem q640 : (Jvm.Cond.methodLink "VerbAtDusk$Reader" (39 : Nat) ({ cls := "VerbAtDusk$Reader", name := "byteAt", desc := "(I)I" } : Jvm.MethodName)) ∈ lw_all := lw_g (lw_at lw_m3 14 rfl) rfl
theorem q641 : (Jvm.Cond.privateMethod ({ cls := "VerbAtDusk$Reader", name := "byteAt", desc := "(I)I" } : Jvm.MethodName)) ∈ lw_tbl := lw_at lw_m3 15 rfl
theorem q642 : (Jvm.Cond.instanceMethod ({ cls := "VerbAtDusk$Reader", name := "byteAt", desc := "(I)I" } : Jvm.MethodName)) ∈ lw_all := lw_g (lw_at lw_m3 16 rfl) rfl
theorem q643 : (Jvm.Cond.code ({ cls := "VerbAtDusk$Reader", name := "byteAt", desc := "(I)I" } : Jvm.MethodName) prog_16_method_3_code (2 : Nat) (Option.some Jvm.ClassFile.FieldType.int)) ∈ lw_all := lw_g (lw_at lw_m3 17 rfl) rfl
theorem q644 : (Jvm.Cond.methodLinkNest "VerbAtDusk$Reader" (51 : Nat) ({ cls := "VerbAtDusk", name := "isLetter", desc := "(I)Z" } : Jvm.MethodName) "VerbAtDusk") ∈ lw_tbl := lw_at lw_m3 18 rfl
theorem q647 : (Jvm.Cond.methodLink "VerbAtDusk$Reader" (47 : Nat) ({ cls := "VerbAtDusk$Reader", name := "wrong", desc := "(II)LVerbAtDusk$Fault;" } : Jvm.MethodName)) ∈ lw_all := lw_g (lw_at lw_m3 21 rfl) rfl
theorem q648 : (Jvm.Cond.privateMethod ({ cls := "VerbAtDusk$Reader", name := "wrong", desc := "(II)LVerbAtDusk$Fault;" } : Jvm.MethodName)) ∈ lw_tbl := lw_at lw_m3 22 rfl
theorem q649 : (Jvm.Cond.instanceMethod ({ cls := "VerbAtDusk$Reader", name := "wrong", desc := "(II)LVerbAtDusk$Fault;" } : Jvm.MethodName)) ∈ lw_all := lw_g (lw_at lw_m3 23 rfl) rfl
theorem q650 : (Jvm.Cond.code ({ cls := "VerbAtDusk$Reader", name := "wrong", desc := "(II)LVerbAtDusk$Fault;" } : Jvm.MethodName) prog_16_method_2_code (3 : Nat) (Option.some (Jvm.ClassFile.FieldType.object "VerbAtDusk$Fault"))) ∈ lw_all := lw_g (lw_at lw_m3 24 rfl) rfl
theorem q651 : (Jvm.Cond.methodLink "VerbAtDusk$Reader" (58 : Nat) ({ cls := "VerbAtDusk$Reader", name := "parted", desc := "()V" } : Jvm.MethodName)) ∈ lw_all := lw_g (lw_at lw_m3 25 rfl) rfl
theorem q652 : (Jvm.Cond.privateMethod ({ cls := "VerbAtDusk$Reader", name := "parted", desc := "()V" } : Jvm.MethodName)) ∈ lw_tbl := lw_at lw_m3 26 rfl
theorem q653 : (Jvm.Cond.instanceMethod ({ cls := "VerbAtDusk$Reader", name := "parted", desc := "()V" } : Jvm.MethodName)) ∈ lw_all := lw_g (lw_at lw_m3 27 rfl) rfl
theorem q654 : (Jvm.Cond.code ({ cls := "VerbAtDusk$Reader", name := "parted", desc := "()V" } : Jvm.MethodName) prog_16_method_6_code (1 : Nat) (Option.none : Option Jvm.ClassFile.FieldType)) ∈ lw_all := lw_g (lw_at lw_m3 28 rfl) rfl
theorem q655 : (Jvm.Cond.methodLinkNest "VerbAtDusk$Reader" (55 : Nat) ({ cls := "VerbAtDusk", name := "isDigit", desc := "(I)Z" } : Jvm.MethodName) "VerbAtDusk") ∈ lw_tbl := lw_at lw_m3 29 rfl
theorem q658 : (Jvm.Cond.methodLink "VerbAtDusk$Reader" (64 : Nat) ({ cls := "java/lang/String", name := "valueOf", desc := "([C)Ljava/lang/String;" } : Jvm.MethodName)) ∈ lw_all := lw_g (lw_at lw_m3 32 rfl) rfl
theorem q736 : (Jvm.Cond.methodLink "VerbAtDusk$Reader" (74 : Nat) ({ cls := "java/lang/String", name := "equals", desc := "(Ljava/lang/Object;)Z" } : Jvm.MethodName)) ∈ lw_all := lw_g (lw_at lw_m3 110 rfl) rfl
theorem q743 : (Jvm.Cond.methodLink "VerbAtDusk$Reader" (96 : Nat) ({ cls := "VerbAtDusk$Reader", name := "number", desc := "(II)I" } : Jvm.MethodName)) ∈ lw_all := lw_g (lw_at lw_m3 117 rfl) rfl
theorem q744 : (Jvm.Cond.privateMethod ({ cls := "VerbAtDusk$Reader", name := "number", desc := "(II)I" } : Jvm.MethodName)) ∈ lw_tbl := lw_at lw_m3 118 rfl
theorem q745 : (Jvm.Cond.instanceMethod ({ cls := "VerbAtDusk$Reader", name := "number", desc := "(II)I" } : Jvm.MethodName)) ∈ lw_all := lw_g (lw_at lw_m3 119 rfl) rfl
theorem q746 : (Jvm.Cond.code ({ cls := "VerbAtDusk$Reader", name := "number", desc := "(II)I" } : Jvm.MethodName) prog_16_method_11_code (4 : Nat) (Option.some Jvm.ClassFile.FieldType.int)) ∈ lw_all := lw_g (lw_at lw_m3 120 rfl) rfl
theorem q747 : (Jvm.Cond.methodLinkNest "VerbAtDusk$Reader" (89 : Nat) ({ cls := "VerbAtDusk", name := "is", desc := "(III)Z" } : Jvm.MethodName) "VerbAtDusk") ∈ lw_tbl := lw_at lw_m3 121 rfl
theorem q750 : (Jvm.Cond.methodLink "VerbAtDusk$Reader" (121 : Nat) ({ cls := "VerbAtDusk$Reader", name := "must", desc := "(I)V" } : Jvm.MethodName)) ∈ lw_all := lw_g (lw_at lw_m3 124 rfl) rfl
theorem q751 : (Jvm.Cond.privateMethod ({ cls := "VerbAtDusk$Reader", name := "must", desc := "(I)V" } : Jvm.MethodName)) ∈ lw_tbl := lw_at lw_m3 125 rfl
theorem q752 : (Jvm.Cond.instanceMethod ({ cls := "VerbAtDusk$Reader", name := "must", desc := "(I)V" } : Jvm.MethodName)) ∈ lw_all := lw_g (lw_at lw_m3 126 rfl) rfl
theorem q753 : (Jvm.Cond.code ({ cls := "VerbAtDusk$Reader", name := "must", desc := "(I)V" } : Jvm.MethodName) prog_16_method_5_code (2 : Nat) (Option.none : Option Jvm.ClassFile.FieldType)) ∈ lw_all := lw_g (lw_at lw_m3 127 rfl) rfl
theorem q754 : (Jvm.Cond.methodLink "VerbAtDusk$Reader" (128 : Nat) ({ cls := "VerbAtDusk$Reader", name := "most", desc := "(ZI)V" } : Jvm.MethodName)) ∈ lw_all := lw_g (lw_at lw_m3 128 rfl) rfl
theorem q755 : (Jvm.Cond.privateMethod ({ cls := "VerbAtDusk$Reader", name := "most", desc := "(ZI)V" } : Jvm.MethodName)) ∈ lw_tbl := lw_at lw_m3 129 rfl
theorem q756 : (Jvm.Cond.instanceMethod ({ cls := "VerbAtDusk$Reader", name := "most", desc := "(ZI)V" } : Jvm.MethodName)) ∈ lw_all := lw_g (lw_at lw_m3 130 rfl) rfl
theorem q757 : (Jvm.Cond.code ({ cls := "VerbAtDusk$Reader", name := "most", desc := "(ZI)V" } : Jvm.MethodName) prog_16_method_14_code (3 : Nat) (Option.none : Option Jvm.ClassFile.FieldType)) ∈ lw_all := lw_g (lw_at lw_m3 131 rfl) rfl
theorem q758 : (Jvm.Cond.methodLink "VerbAtDusk$Reader" (132 : Nat) ({ cls := "VerbAtDusk$Reader", name := "named", desc := "(Ljava/lang/String;I)Z" } : Jvm.MethodName)) ∈ lw_all := lw_g (lw_at lw_m3 132 rfl) rfl
theorem q759 : (Jvm.Cond.privateMethod ({ cls := "VerbAtDusk$Reader", name := "named", desc := "(Ljava/lang/String;I)Z" } : Jvm.MethodName)) ∈ lw_tbl := lw_at lw_m3 133 rfl
theorem q760 : (Jvm.Cond.instanceMethod ({ cls := "VerbAtDusk$Reader", name := "named", desc := "(Ljava/lang/String;I)Z" } : Jvm.MethodName)) ∈ lw_all := lw_g (lw_at lw_m3 134 rfl) rfl
theorem q761 : (Jvm.Cond.code ({ cls := "VerbAtDusk$Reader", name := "named", desc := "(Ljava/lang/String;I)Z" } : Jvm.MethodName) prog_16_method_16_code (11 : Nat) (Option.some Jvm.ClassFile.FieldType.boolean)) ∈ lw_all := lw_g (lw_at lw_m3 135 rfl) rfl
theorem q762 : (Jvm.Cond.methodLink "VerbAtDusk$Reader" (140 : Nat) ({ cls := "java/lang/String", name := "hashCode", desc := "()I" } : Jvm.MethodName)) ∈ lw_all := lw_g (lw_at lw_m3 136 rfl) rfl
theorem q815 : (Jvm.Cond.stringRef "VerbAtDusk$Reader" (143 : Nat) "saying") ∈ lw_tbl := lw_at lw_m3 189 rfl
theorem q816 : (Jvm.Cond.stringRef "VerbAtDusk$Reader" (145 : Nat) "verb") ∈ lw_tbl := lw_at lw_m3 190 rfl
theorem q817 : (Jvm.Cond.stringRef "VerbAtDusk$Reader" (147 : Nat) "lent") ∈ lw_tbl := lw_at lw_m3 191 rfl
theorem q818 : (Jvm.Cond.interfaceEntry "VerbAtDusk$Reader" (153 : Nat)) ∈ lw_tbl := lw_at lw_m3 192 rfl
theorem q819 : (Jvm.Cond.methodLink "VerbAtDusk$Reader" (153 : Nat) ({ cls := "java/util/List", name := "size", desc := "()I" } : Jvm.MethodName)) ∈ lw_all := lw_g (lw_at lw_m3 193 rfl) rfl
theorem q828 : (Jvm.Cond.methodLink "VerbAtDusk$Reader" (157 : Nat) ({ cls := "VerbAtDusk$Reader", name := "fresh", desc := "()Ljava/lang/String;" } : Jvm.MethodName)) ∈ lw_all := lw_g (lw_at lw_m3 202 rfl) rfl
theorem q829 : (Jvm.Cond.privateMethod ({ cls := "VerbAtDusk$Reader", name := "fresh", desc := "()Ljava/lang/String;" } : Jvm.MethodName)) ∈ lw_tbl := lw_at lw_m3 203 rfl
theorem q830 : (Jvm.Cond.instanceMethod ({ cls := "VerbAtDusk$Reader", name := "fresh", desc := "()Ljava/lang/String;" } : Jvm.MethodName)) ∈ lw_all := lw_g (lw_at lw_m3 204 rfl) rfl
theorem q831 : (Jvm.Cond.code ({ cls := "VerbAtDusk$Reader", name := "fresh", desc := "()Ljava/lang/String;" } : Jvm.MethodName) prog_16_method_13_code (2 : Nat) (Option.some (Jvm.ClassFile.FieldType.object "java/lang/String"))) ∈ lw_all := lw_g (lw_at lw_m3 205 rfl) rfl
theorem q832 : (Jvm.Cond.methodLink "VerbAtDusk$Reader" (100 : Nat) ({ cls := "VerbAtDusk$Reader", name := "name", desc := "()Ljava/lang/String;" } : Jvm.MethodName)) ∈ lw_all := lw_g (lw_at lw_m3 206 rfl) rfl
theorem q833 : (Jvm.Cond.privateMethod ({ cls := "VerbAtDusk$Reader", name := "name", desc := "()Ljava/lang/String;" } : Jvm.MethodName)) ∈ lw_tbl := lw_at lw_m3 207 rfl
theorem q834 : (Jvm.Cond.instanceMethod ({ cls := "VerbAtDusk$Reader", name := "name", desc := "()Ljava/lang/String;" } : Jvm.MethodName)) ∈ lw_all := lw_g (lw_at lw_m3 208 rfl) rfl
theorem q835 : (Jvm.Cond.code ({ cls := "VerbAtDusk$Reader", name := "name", desc := "()Ljava/lang/String;" } : Jvm.MethodName) prog_16_method_10_code (2 : Nat) (Option.some (Jvm.ClassFile.FieldType.object "java/lang/String"))) ∈ lw_all := lw_g (lw_at lw_m3 209 rfl) rfl
theorem q836 : (Jvm.Cond.fieldLinkNest "VerbAtDusk$Reader" (78 : Nat) "VerbAtDusk" "OWN" "[Ljava/lang/String;" "VerbAtDusk") ∈ lw_tbl := lw_at lw_m3 210 rfl
theorem q838 : (Jvm.Cond.methodLinkNest "VerbAtDusk$Reader" (82 : Nat) ({ cls := "VerbAtDusk", name := "find", desc := "(Ljava/lang/String;[Ljava/lang/String;)I" } : Jvm.MethodName) "VerbAtDusk") ∈ lw_tbl := lw_at lw_m3 212 rfl
theorem q842 : (Jvm.Cond.methodLink "VerbAtDusk$Reader" (86 : Nat) ({ cls := "java/lang/String", name := "length", desc := "()I" } : Jvm.MethodName)) ∈ lw_all := lw_g (lw_at lw_m3 216 rfl) rfl
theorem q850 : (Jvm.Cond.methodLink "VerbAtDusk$Reader" (107 : Nat) ({ cls := "VerbAtDusk$Country", name := "isNamed", desc := "(Ljava/lang/String;)Z" } : Jvm.MethodName)) ∈ lw_all := lw_g (lw_at lw_m3 224 rfl) rfl
theorem q880 : (Jvm.Cond.stringRef "VerbAtDusk$Reader" (160 : Nat) "at") ∈ lw_tbl := lw_at lw_m4 14 rfl
theorem q881 : (Jvm.Cond.methodLink "VerbAtDusk$Reader" (161 : Nat) ({ cls := "VerbAtDusk$Reader", name := "number", desc := "(Ljava/lang/String;II)I" } : Jvm.MethodName)) ∈ lw_all := lw_g (lw_at lw_m4 15 rfl) rfl
theorem q882 : (Jvm.Cond.privateMethod ({ cls := "VerbAtDusk$Reader", name := "number", desc := "(Ljava/lang/String;II)I" } : Jvm.MethodName)) ∈ lw_tbl := lw_at lw_m4 16 rfl
theorem q883 : (Jvm.Cond.instanceMethod ({ cls := "VerbAtDusk$Reader", name := "number", desc := "(Ljava/lang/String;II)I" } : Jvm.MethodName)) ∈ lw_all := lw_g (lw_at lw_m4 17 rfl) rfl
theorem q884 : (Jvm.Cond.code ({ cls := "VerbAtDusk$Reader", name := "number", desc := "(Ljava/lang/String;II)I" } : Jvm.MethodName) prog_16_method_12_code (4 : Nat) (Option.some Jvm.ClassFile.FieldType.int)) ∈ lw_all := lw_g (lw_at lw_m4 18 rfl) rfl
theorem q885 : (Jvm.Cond.classLink "VerbAtDusk$Reader" (164 : Nat) "VerbAtDusk$Saying") ∈ lw_all := lw_g (lw_at lw_m4 19 rfl) rfl
theorem q887 : (Jvm.Cond.stringRef "VerbAtDusk$Reader" (166 : Nat) "tone") ∈ lw_tbl := lw_at lw_m4 21 rfl
theorem q888 : (Jvm.Cond.methodLink "VerbAtDusk$Reader" (168 : Nat) ({ cls := "VerbAtDusk$Saying", name := "<init>", desc := "(Ljava/lang/String;III)V" } : Jvm.MethodName)) ∈ lw_all := lw_g (lw_at lw_m4 22 rfl) rfl
theorem q911 : (Jvm.Cond.interfaceEntry "VerbAtDusk$Reader" (171 : Nat)) ∈ lw_tbl := lw_at lw_m4 45 rfl
theorem q912 : (Jvm.Cond.methodLink "VerbAtDusk$Reader" (171 : Nat) ({ cls := "java/util/List", name := "add", desc := "(Ljava/lang/Object;)Z" } : Jvm.MethodName)) ∈ lw_all := lw_g (lw_at lw_m4 46 rfl) rfl
theorem q964 : (Jvm.Cond.selects "VerbAtDusk$Reader" ({ cls := "java/lang/Object", name := "getClass", desc := "()Ljava/lang/Class;" } : Jvm.MethodName) ({ cls := "java/lang/Object", name := "getClass", desc := "()Ljava/lang/Class;" } : Jvm.MethodName)) ∈ lw_all := lw_g (lw_at lw_m4 98 rfl) rfl
theorem q988 : (Jvm.Cond.stringRef "VerbAtDusk$Reader" (177 : Nat) "kind") ∈ lw_tbl := lw_at lw_m4 122 rfl
theorem q989 : (Jvm.Cond.classLink "VerbAtDusk$Reader" (178 : Nat) "VerbAtDusk$Verb") ∈ lw_all := lw_g (lw_at lw_m4 123 rfl) rfl
theorem q991 : (Jvm.Cond.stringRef "VerbAtDusk$Reader" (180 : Nat) "mild") ∈ lw_tbl := lw_at lw_m4 125 rfl
theorem q992 : (Jvm.Cond.methodLink "VerbAtDusk$Reader" (182 : Nat) ({ cls := "VerbAtDusk$Verb", name := "<init>", desc := "(Ljava/lang/String;II)V" } : Jvm.MethodName)) ∈ lw_all := lw_g (lw_at lw_m4 126 rfl) rfl
theorem q1008 : (Jvm.Cond.methodLink "VerbAtDusk$Reader" (185 : Nat) ({ cls := "VerbAtDusk$Named", name := "find", desc := "(Ljava/util/List;Ljava/lang/String;)I" } : Jvm.MethodName)) ∈ lw_all := lw_g (lw_at lw_m4 142 rfl) rfl
theorem q1009 : (Jvm.Cond.methodLinkNest "VerbAtDusk$Reader" (192 : Nat) ({ cls := "VerbAtDusk", name := "has", desc := "(II)Z" } : Jvm.MethodName) "VerbAtDusk") ∈ lw_tbl := lw_at lw_m4 143 rfl
theorem q1012 : (Jvm.Cond.methodLink "VerbAtDusk$Reader" (136 : Nat) ({ cls := "VerbAtDusk$Reader", name := "more", desc := "(Ljava/lang/String;I)V" } : Jvm.MethodName)) ∈ lw_all := lw_g (lw_at lw_m4 146 rfl) rfl
theorem q1013 : (Jvm.Cond.privateMethod ({ cls := "VerbAtDusk$Reader", name := "more", desc := "(Ljava/lang/String;I)V" } : Jvm.MethodName)) ∈ lw_tbl := lw_at lw_m4 147 rfl
theorem q1014 : (Jvm.Cond.instanceMethod ({ cls := "VerbAtDusk$Reader", name := "more", desc := "(Ljava/lang/String;I)V" } : Jvm.MethodName)) ∈ lw_all := lw_g (lw_at lw_m4 148 rfl) rfl
theorem q1015 : (Jvm.Cond.code ({ cls := "VerbAtDusk$Reader", name := "more", desc := "(Ljava/lang/String;I)V" } : Jvm.MethodName) prog_16_method_18_code (5 : Nat) (Option.none : Option Jvm.ClassFile.FieldType)) ∈ lw_all := lw_g (lw_at lw_m4 149 rfl) rfl
theorem q1016 : (Jvm.Cond.stringRef "VerbAtDusk$Reader" (203 : Nat) "takes") ∈ lw_tbl := lw_at lw_m4 150 rfl
theorem q1017 : (Jvm.Cond.stringRef "VerbAtDusk$Reader" (205 : Nat) "well") ∈ lw_tbl := lw_at lw_m4 151 rfl
theorem q1018 : (Jvm.Cond.stringRef "VerbAtDusk$Reader" (207 : Nat) "turns") ∈ lw_tbl := lw_at lw_m4 152 rfl
theorem q1019 : (Jvm.Cond.stringRef "VerbAtDusk$Reader" (209 : Nat) "ditch") ∈ lw_tbl := lw_at lw_m4 153 rfl
theorem q1020 : (Jvm.Cond.methodLink "VerbAtDusk$Reader" (214 : Nat) ({ cls := "VerbAtDusk$Reader", name := "test", desc := "()LVerbAtDusk$Test;" } : Jvm.MethodName)) ∈ lw_all := lw_g (lw_at lw_m4 154 rfl) rfl
theorem q1021 : (Jvm.Cond.privateMethod ({ cls := "VerbAtDusk$Reader", name := "test", desc := "()LVerbAtDusk$Test;" } : Jvm.MethodName)) ∈ lw_tbl := lw_at lw_m4 155 rfl
theorem q1022 : (Jvm.Cond.instanceMethod ({ cls := "VerbAtDusk$Reader", name := "test", desc := "()LVerbAtDusk$Test;" } : Jvm.MethodName)) ∈ lw_all := lw_g (lw_at lw_m4 156 rfl) rfl
theorem q1023 : (Jvm.Cond.code ({ cls := "VerbAtDusk$Reader", name := "test", desc := "()LVerbAtDusk$Test;" } : Jvm.MethodName) prog_16_method_25_code (2 : Nat) (Option.some (Jvm.ClassFile.FieldType.object "VerbAtDusk$Test"))) ∈ lw_all := lw_g (lw_at lw_m4 157 rfl) rfl
theorem q1024 : (Jvm.Cond.classLink "VerbAtDusk$Reader" (277 : Nat) "VerbAtDusk$Facts") ∈ lw_all := lw_g (lw_at lw_m4 158 rfl) rfl
theorem q1026 : (Jvm.Cond.methodLink "VerbAtDusk$Reader" (279 : Nat) ({ cls := "VerbAtDusk$Facts", name := "<init>", desc := "(Z)V" } : Jvm.MethodName)) ∈ lw_all := lw_g (lw_at lw_m4 160 rfl) rfl
theorem q1036 : (Jvm.Cond.fieldLinkNest "VerbAtDusk$Reader" (282 : Nat) "VerbAtDusk$Facts" "tests" "Ljava/util/List;" "VerbAtDusk") ∈ lw_tbl := lw_at lw_m4 170 rfl
theorem q1043 : (Jvm.Cond.methodLink "VerbAtDusk$Reader" (285 : Nat) ({ cls := "VerbAtDusk$Reader", name := "both", desc := "()LVerbAtDusk$Test;" } : Jvm.MethodName)) ∈ lw_all := lw_g (lw_at lw_m4 177 rfl) rfl
theorem q1044 : (Jvm.Cond.privateMethod ({ cls := "VerbAtDusk$Reader", name := "both", desc := "()LVerbAtDusk$Test;" } : Jvm.MethodName)) ∈ lw_tbl := lw_at lw_m4 178 rfl
theorem q1045 : (Jvm.Cond.instanceMethod ({ cls := "VerbAtDusk$Reader", name := "both", desc := "()LVerbAtDusk$Test;" } : Jvm.MethodName)) ∈ lw_all := lw_g (lw_at lw_m4 179 rfl) rfl
theorem q1046 : (Jvm.Cond.code ({ cls := "VerbAtDusk$Reader", name := "both", desc := "()LVerbAtDusk$Test;" } : Jvm.MethodName) prog_16_method_26_code (2 : Nat) (Option.some (Jvm.ClassFile.FieldType.object "VerbAtDusk$Test"))) ∈ lw_all := lw_g (lw_at lw_m4 180 rfl) rfl
theorem q1047 : (Jvm.Cond.methodLink "VerbAtDusk$Reader" (293 : Nat) ({ cls := "VerbAtDusk$Reader", name := "fact", desc := "()LVerbAtDusk$Test;" } : Jvm.MethodName)) ∈ lw_all := lw_g (lw_at lw_m4 181 rfl) rfl
theorem q1048 : (Jvm.Cond.privateMethod ({ cls := "VerbAtDusk$Reader", name := "fact", desc := "()LVerbAtDusk$Test;" } : Jvm.MethodName)) ∈ lw_tbl := lw_at lw_m4 182 rfl
theorem q1049 : (Jvm.Cond.instanceMethod ({ cls := "VerbAtDusk$Reader", name := "fact", desc := "()LVerbAtDusk$Test;" } : Jvm.MethodName)) ∈ lw_all := lw_g (lw_at lw_m4 183 rfl) rfl
theorem q1050 : (Jvm.Cond.code ({ cls := "VerbAtDusk$Reader", name := "fact", desc := "()LVerbAtDusk$Test;" } : Jvm.MethodName) prog_16_method_27_code (3 : Nat) (Option.some (Jvm.ClassFile.FieldType.object "VerbAtDusk$Test"))) ∈ lw_all := lw_g (lw_at lw_m4 184 rfl) rfl
theorem q1051 : (Jvm.Cond.methodLink "VerbAtDusk$Reader" (243 : Nat) ({ cls := "VerbAtDusk$Reader", name := "opens", desc := "(I)V" } : Jvm.MethodName)) ∈ lw_all := lw_g (lw_at lw_m4 185 rfl) rfl
theorem q1052 : (Jvm.Cond.privateMethod ({ cls := "VerbAtDusk$Reader", name := "opens", desc := "(I)V" } : Jvm.MethodName)) ∈ lw_tbl := lw_at lw_m4 186 rfl
theorem q1053 : (Jvm.Cond.instanceMethod ({ cls := "VerbAtDusk$Reader", name := "opens", desc := "(I)V" } : Jvm.MethodName)) ∈ lw_all := lw_g (lw_at lw_m4 187 rfl) rfl
theorem q1054 : (Jvm.Cond.code ({ cls := "VerbAtDusk$Reader", name := "opens", desc := "(I)V" } : Jvm.MethodName) prog_16_method_22_code (2 : Nat) (Option.none : Option Jvm.ClassFile.FieldType)) ∈ lw_all := lw_g (lw_at lw_m4 188 rfl) rfl
theorem q1055 : (Jvm.Cond.stringRef "VerbAtDusk$Reader" (298 : Nat) "not") ∈ lw_tbl := lw_at lw_m4 189 rfl
theorem q1056 : (Jvm.Cond.methodLink "VerbAtDusk$Reader" (290 : Nat) ({ cls := "VerbAtDusk$Reader", name := "passes", desc := "(Ljava/lang/String;)Z" } : Jvm.MethodName)) ∈ lw_all := lw_g (lw_at lw_m4 190 rfl) rfl
theorem q1057 : (Jvm.Cond.privateMethod ({ cls := "VerbAtDusk$Reader", name := "passes", desc := "(Ljava/lang/String;)Z" } : Jvm.MethodName)) ∈ lw_tbl := lw_at lw_m4 191 rfl
theorem q1058 : (Jvm.Cond.instanceMethod ({ cls := "VerbAtDusk$Reader", name := "passes", desc := "(Ljava/lang/String;)Z" } : Jvm.MethodName)) ∈ lw_all := lw_g (lw_at lw_m4 192 rfl) rfl
theorem q1059 : (Jvm.Cond.code ({ cls := "VerbAtDusk$Reader", name := "passes", desc := "(Ljava/lang/String;)Z" } : Jvm.MethodName) prog_16_method_9_code (3 : Nat) (Option.some Jvm.ClassFile.FieldType.boolean)) ∈ lw_all := lw_g (lw_at lw_m4 193 rfl) rfl
theorem q1060 : (Jvm.Cond.classLink "VerbAtDusk$Reader" (300 : Nat) "VerbAtDusk$Not") ∈ lw_all := lw_g (lw_at lw_m4 194 rfl) rfl
theorem q1062 : (Jvm.Cond.methodLink "VerbAtDusk$Reader" (302 : Nat) ({ cls := "VerbAtDusk$Not", name := "<init>", desc := "(LVerbAtDusk$Test;)V" } : Jvm.MethodName)) ∈ lw_all := lw_g (lw_at lw_m4 196 rfl) rfl
theorem q1070 : (Jvm.Cond.stringRef "VerbAtDusk$Reader" (305 : Nat) "all") ∈ lw_tbl := lw_at lw_m4 204 rfl
theorem q1071 : (Jvm.Cond.classLink "VerbAtDusk$Reader" (307 : Nat) "VerbAtDusk$All") ∈ lw_all := lw_g (lw_at lw_m4 205 rfl) rfl
theorem q1073 : (Jvm.Cond.methodLinkNest "VerbAtDusk$Reader" (309 : Nat) ({ cls := "VerbAtDusk$All", name := "<init>", desc := "()V" } : Jvm.MethodName) "VerbAtDusk") ∈ lw_tbl := lw_at lw_m4 207 rfl
theorem q1078 : (Jvm.Cond.methodLink "VerbAtDusk$Reader" (199 : Nat) ({ cls := "VerbAtDusk$Reader", name := "sum", desc := "()LVerbAtDusk$Value;" } : Jvm.MethodName)) ∈ lw_all := lw_g (lw_at lw_m4 212 rfl) rfl
theorem q1079 : (Jvm.Cond.privateMethod ({ cls := "VerbAtDusk$Reader", name := "sum", desc := "()LVerbAtDusk$Value;" } : Jvm.MethodName)) ∈ lw_tbl := lw_at lw_m4 213 rfl
theorem q1080 : (Jvm.Cond.instanceMethod ({ cls := "VerbAtDusk$Reader", name := "sum", desc := "()LVerbAtDusk$Value;" } : Jvm.MethodName)) ∈ lw_all := lw_g (lw_at lw_m4 214 rfl) rfl
theorem q1081 : (Jvm.Cond.code ({ cls := "VerbAtDusk$Reader", name := "sum", desc := "()LVerbAtDusk$Value;" } : Jvm.MethodName) prog_16_method_20_code (3 : Nat) (Option.some (Jvm.ClassFile.FieldType.object "VerbAtDusk$Value"))) ∈ lw_all := lw_g (lw_at lw_m4 215 rfl) rfl
theorem q1082 : (Jvm.Cond.classLink "VerbAtDusk$Reader" (229 : Nat) "VerbAtDusk$Chain") ∈ lw_all := lw_g (lw_at lw_m4 216 rfl) rfl
theorem q1084 : (Jvm.Cond.methodLinkNest "VerbAtDusk$Reader" (231 : Nat) ({ cls := "VerbAtDusk$Chain", name := "<init>", desc := "()V" } : Jvm.MethodName) "VerbAtDusk") ∈ lw_tbl := lw_at lw_m4 218 rfl
theorem q1123 : (Jvm.Cond.methodLink "VerbAtDusk$Reader" (232 : Nat) ({ cls := "VerbAtDusk$Reader", name := "product", desc := "()LVerbAtDusk$Value;" } : Jvm.MethodName)) ∈ lw_all := lw_g (lw_at lw_m5 17 rfl) rfl
theorem q1124 : (Jvm.Cond.privateMethod ({ cls := "VerbAtDusk$Reader", name := "product", desc := "()LVerbAtDusk$Value;" } : Jvm.MethodName)) ∈ lw_tbl := lw_at lw_m5 18 rfl
theorem q1125 : (Jvm.Cond.instanceMethod ({ cls := "VerbAtDusk$Reader", name := "product", desc := "()LVerbAtDusk$Value;" } : Jvm.MethodName)) ∈ lw_all := lw_g (lw_at lw_m5 19 rfl) rfl
theorem q1126 : (Jvm.Cond.code ({ cls := "VerbAtDusk$Reader", name := "product", desc := "()LVerbAtDusk$Value;" } : Jvm.MethodName) prog_16_method_21_code (3 : Nat) (Option.some (Jvm.ClassFile.FieldType.object "VerbAtDusk$Value"))) ∈ lw_all := lw_g (lw_at lw_m5 20 rfl) rfl
theorem q1127 : (Jvm.Cond.methodLink "VerbAtDusk$Reader" (240 : Nat) ({ cls := "VerbAtDusk$Reader", name := "atom", desc := "()LVerbAtDusk$Value;" } : Jvm.MethodName)) ∈ lw_all := lw_g (lw_at lw_m5 21 rfl) rfl
theorem q1128 : (Jvm.Cond.privateMethod ({ cls := "VerbAtDusk$Reader", name := "atom", desc := "()LVerbAtDusk$Value;" } : Jvm.MethodName)) ∈ lw_tbl := lw_at lw_m5 22 rfl
theorem q1129 : (Jvm.Cond.instanceMethod ({ cls := "VerbAtDusk$Reader", name := "atom", desc := "()LVerbAtDusk$Value;" } : Jvm.MethodName)) ∈ lw_all := lw_g (lw_at lw_m5 23 rfl) rfl
theorem q1130 : (Jvm.Cond.code ({ cls := "VerbAtDusk$Reader", name := "atom", desc := "()LVerbAtDusk$Value;" } : Jvm.MethodName) prog_16_method_24_code (3 : Nat) (Option.some (Jvm.ClassFile.FieldType.object "VerbAtDusk$Value"))) ∈ lw_all := lw_g (lw_at lw_m5 24 rfl) rfl
theorem q1131 : (Jvm.Cond.methodLink "VerbAtDusk$Reader" (251 : Nat) ({ cls := "VerbAtDusk$Reader", name := "within", desc := "(I)LVerbAtDusk$Value;" } : Jvm.MethodName)) ∈ lw_all := lw_g (lw_at lw_m5 25 rfl) rfl
theorem q1132 : (Jvm.Cond.privateMethod ({ cls := "VerbAtDusk$Reader", name := "within", desc := "(I)LVerbAtDusk$Value;" } : Jvm.MethodName)) ∈ lw_tbl := lw_at lw_m5 26 rfl
theorem q1133 : (Jvm.Cond.instanceMethod ({ cls := "VerbAtDusk$Reader", name := "within", desc := "(I)LVerbAtDusk$Value;" } : Jvm.MethodName)) ∈ lw_all := lw_g (lw_at lw_m5 27 rfl) rfl
theorem q1134 : (Jvm.Cond.code ({ cls := "VerbAtDusk$Reader", name := "within", desc := "(I)LVerbAtDusk$Value;" } : Jvm.MethodName) prog_16_method_23_code (4 : Nat) (Option.some (Jvm.ClassFile.FieldType.object "VerbAtDusk$Value"))) ∈ lw_all := lw_g (lw_at lw_m5 28 rfl) rfl
theorem q1135 : (Jvm.Cond.classLink "VerbAtDusk$Reader" (246 : Nat) "VerbAtDusk$Pair") ∈ lw_all := lw_g (lw_at lw_m5 29 rfl) rfl
theorem q1137 : (Jvm.Cond.methodLink "VerbAtDusk$Reader" (248 : Nat) ({ cls := "VerbAtDusk$Pair", name := "<init>", desc := "(ZLVerbAtDusk$Value;LVerbAtDusk$Value;)V" } : Jvm.MethodName)) ∈ lw_all := lw_g (lw_at lw_m5 31 rfl) rfl
theorem q1151 : (Jvm.Cond.classLink "VerbAtDusk$Reader" (255 : Nat) "VerbAtDusk$Fixed") ∈ lw_all := lw_g (lw_at lw_m5 45 rfl) rfl
theorem q1153 : (Jvm.Cond.methodLink "VerbAtDusk$Reader" (257 : Nat) ({ cls := "VerbAtDusk$Fixed", name := "<init>", desc := "(J)V" } : Jvm.MethodName)) ∈ lw_all := lw_g (lw_at lw_m5 47 rfl) rfl
theorem q1161 : (Jvm.Cond.fieldLinkNest "VerbAtDusk$Reader" (260 : Nat) "VerbAtDusk" "ASKED" "[Ljava/lang/String;" "VerbAtDusk") ∈ lw_tbl := lw_at lw_m5 55 rfl
theorem q1163 : (Jvm.Cond.classLink "VerbAtDusk$Reader" (263 : Nat) "VerbAtDusk$Asked") ∈ lw_all := lw_g (lw_at lw_m5 57 rfl) rfl
theorem q1165 : (Jvm.Cond.methodLink "VerbAtDusk$Reader" (265 : Nat) ({ cls := "VerbAtDusk$Asked", name := "<init>", desc := "(I)V" } : Jvm.MethodName)) ∈ lw_all := lw_g (lw_at lw_m5 59 rfl) rfl
theorem q1173 : (Jvm.Cond.fieldLinkNest "VerbAtDusk$Reader" (267 : Nat) "VerbAtDusk" "LOOKED" "[Ljava/lang/String;" "VerbAtDusk") ∈ lw_tbl := lw_at lw_m5 67 rfl
theorem q1175 : (Jvm.Cond.methodLink "VerbAtDusk$Reader" (270 : Nat) ({ cls := "VerbAtDusk$Reader", name := "looked", desc := "(I)LVerbAtDusk$Value;" } : Jvm.MethodName)) ∈ lw_all := lw_g (lw_at lw_m5 69 rfl) rfl
theorem q1176 : (Jvm.Cond.privateMethod ({ cls := "VerbAtDusk$Reader", name := "looked", desc := "(I)LVerbAtDusk$Value;" } : Jvm.MethodName)) ∈ lw_tbl := lw_at lw_m5 70 rfl
theorem q1177 : (Jvm.Cond.instanceMethod ({ cls := "VerbAtDusk$Reader", name := "looked", desc := "(I)LVerbAtDusk$Value;" } : Jvm.MethodName)) ∈ lw_all := lw_g (lw_at lw_m5 71 rfl) rfl
theorem q1178 : (Jvm.Cond.code ({ cls := "VerbAtDusk$Reader", name := "looked", desc := "(I)LVerbAtDusk$Value;" } : Jvm.MethodName) prog_16_method_28_code (3 : Nat) (Option.some (Jvm.ClassFile.FieldType.object "VerbAtDusk$Value"))) ∈ lw_all := lw_g (lw_at lw_m5 72 rfl) rfl
theorem q1179 : (Jvm.Cond.classLink "VerbAtDusk$Reader" (315 : Nat) "VerbAtDusk$Looked") ∈ lw_all := lw_g (lw_at lw_m5 73 rfl) rfl
theorem q1181 : (Jvm.Cond.methodLink "VerbAtDusk$Reader" (317 : Nat) ({ cls := "VerbAtDusk$Looked", name := "<init>", desc := "(LVerbAtDusk;ILVerbAtDusk$Value;)V" } : Jvm.MethodName)) ∈ lw_all := lw_g (lw_at lw_m5 75 rfl) rfl
theorem q1195 : (Jvm.Cond.stringRef "VerbAtDusk$Reader" (273 : Nat) "min") ∈ lw_tbl := lw_at lw_m5 89 rfl
theorem q1196 : (Jvm.Cond.stringRef "VerbAtDusk$Reader" (275 : Nat) "max") ∈ lw_tbl := lw_at lw_m5 90 rfl
theorem q1197 : (Jvm.Cond.methodLink "VerbAtDusk$Reader" (235 : Nat) ({ cls := "VerbAtDusk$Chain", name := "add", desc := "(CLVerbAtDusk$Value;)V" } : Jvm.MethodName)) ∈ lw_all := lw_g (lw_at lw_m5 91 rfl) rfl
theorem q1258 : (Jvm.Cond.methodLink "VerbAtDusk$Reader" (238 : Nat) ({ cls := "VerbAtDusk$Reader", name := "takes", desc := "(I)Z" } : Jvm.MethodName)) ∈ lw_all := lw_g (lw_at lw_m5 152 rfl) rfl
theorem q1259 : (Jvm.Cond.privateMethod ({ cls := "VerbAtDusk$Reader", name := "takes", desc := "(I)Z" } : Jvm.MethodName)) ∈ lw_tbl := lw_at lw_m5 153 rfl
theorem q1260 : (Jvm.Cond.instanceMethod ({ cls := "VerbAtDusk$Reader", name := "takes", desc := "(I)Z" } : Jvm.MethodName)) ∈ lw_all := lw_g (lw_at lw_m5 154 rfl) rfl
theorem q1261 : (Jvm.Cond.code ({ cls := "VerbAtDusk$Reader", name := "takes", desc := "(I)Z" } : Jvm.MethodName) prog_16_method_19_code (3 : Nat) (Option.some Jvm.ClassFile.FieldType.boolean)) ∈ lw_all := lw_g (lw_at lw_m5 155 rfl) rfl
theorem q1262 : (Jvm.Cond.classLink "VerbAtDusk$Reader" (310 : Nat) "VerbAtDusk$Than") ∈ lw_all := lw_g (lw_at lw_m5 156 rfl) rfl
theorem q1264 : (Jvm.Cond.methodLink "VerbAtDusk$Reader" (312 : Nat) ({ cls := "VerbAtDusk$Than", name := "<init>", desc := "(LVerbAtDusk$Value;ILVerbAtDusk$Value;)V" } : Jvm.MethodName)) ∈ lw_all := lw_g (lw_at lw_m5 158 rfl) rfl
theorem q1278 : (Jvm.Cond.stringRef "VerbAtDusk$Reader" (296 : Nat) "and") ∈ lw_tbl := lw_at lw_m5 172 rfl
theorem q1279 : (Jvm.Cond.stringRef "VerbAtDusk$Reader" (288 : Nat) "or") ∈ lw_tbl := lw_at lw_m5 173 rfl
theorem q1280 : (Jvm.Cond.methodLink "VerbAtDusk$Reader" (221 : Nat) ({ cls := "VerbAtDusk$Reader", name := "once", desc := "(LVerbAtDusk$Value;I)LVerbAtDusk$Value;" } : Jvm.MethodName)) ∈ lw_all := lw_g (lw_at lw_m5 174 rfl) rfl
theorem q1281 : (Jvm.Cond.privateMethod ({ cls := "VerbAtDusk$Reader", name := "once", desc := "(LVerbAtDusk$Value;I)LVerbAtDusk$Value;" } : Jvm.MethodName)) ∈ lw_tbl := lw_at lw_m5 175 rfl
theorem q1282 : (Jvm.Cond.instanceMethod ({ cls := "VerbAtDusk$Reader", name := "once", desc := "(LVerbAtDusk$Value;I)LVerbAtDusk$Value;" } : Jvm.MethodName)) ∈ lw_all := lw_g (lw_at lw_m5 176 rfl) rfl
theorem q1283 : (Jvm.Cond.code ({ cls := "VerbAtDusk$Reader", name := "once", desc := "(LVerbAtDusk$Value;I)LVerbAtDusk$Value;" } : Jvm.MethodName) prog_16_method_17_code (3 : Nat) (Option.some (Jvm.ClassFile.FieldType.object "VerbAtDusk$Value"))) ∈ lw_all := lw_g (lw_at lw_m5 177 rfl) rfl
theorem q1675 : (Jvm.Cond.instanceMethod ({ cls := "VerbAtDusk$Reader", name := "question", desc := "(I)LVerbAtDusk$Question;" } : Jvm.MethodName)) ∈ lw_all := lw_g (lw_at lw_m7 89 rfl) rfl
theorem q1676 : (Jvm.Cond.selects "VerbAtDusk$Reader" ({ cls := "VerbAtDusk$Reader", name := "question", desc := "(I)LVerbAtDusk$Question;" } : Jvm.MethodName) ({ cls := "VerbAtDusk$Reader", name := "question", desc := "(I)LVerbAtDusk$Question;" } : Jvm.MethodName)) ∈ lw_all := lw_g (lw_at lw_m7 90 rfl) rfl
theorem q1677 : (Jvm.Cond.code ({ cls := "VerbAtDusk$Reader", name := "question", desc := "(I)LVerbAtDusk$Question;" } : Jvm.MethodName) prog_16_method_29_code (4 : Nat) (Option.some (Jvm.ClassFile.FieldType.object "VerbAtDusk$Question"))) ∈ lw_all := lw_g (lw_at lw_m7 91 rfl) rfl
theorem q1678 : (Jvm.Cond.fieldLinkNest "VerbAtDusk$Reader" (320 : Nat) "VerbAtDusk" "TOLD_OF" "[Ljava/lang/String;" "VerbAtDusk") ∈ lw_tbl := lw_at lw_m7 92 rfl
theorem q1680 : (Jvm.Cond.classLink "VerbAtDusk$Reader" (323 : Nat) "VerbAtDusk$Question") ∈ lw_all := lw_g (lw_at lw_m7 94 rfl) rfl
theorem q1682 : (Jvm.Cond.methodLink "VerbAtDusk$Reader" (325 : Nat) ({ cls := "VerbAtDusk$Question", name := "<init>", desc := "(ILVerbAtDusk$Test;LVerbAtDusk$Value;)V" } : Jvm.MethodName)) ∈ lw_all := lw_g (lw_at lw_m7 96 rfl) rfl
theorem q2646 : (Jvm.Cond.castable "VerbAtDusk$Reader" "java/lang/Object") ∈ lw_tbl := lw_at lw_m11 100 rfl
theorem in_X2 : ∀ w ∈ wsX20, w ∈ lw_all := lw_in wsX20 [360, 362, 364, 366, 368, 370, 372, 374] (by decide +kernel) (by decide +kernel)
/-! VerbAtDusk$Fault -/
set_option maxRecDepth 100000
def RX3 : String := "VerbAtDusk$Fault"
def TX3 : u_T := fun k => match k with
  | 0 => ("java/lang/Throwable", "cause", "Ljava/lang/Throwable;", false)
  | 1 => ("java/lang/Throwable", "stackTrace", "[Ljava/lang/StackTraceElement;", false)
  | 2 => ("java/lang/Throwable", "suppressedExceptions", "Ljava/util/List;", false)
  | 3 => ("java/lang/Throwable", "detailMessage", "Ljava/lang/String;", false)
  | 4 => ("java/lang/Throwable", "backtrace", "Ljava/lang/Object;", false)
  | 5 => ("java/lang/Throwable", "depth", "I", false)
  | 6 => ("VerbAtDusk$Fault", "kind", "I", false)
  | _ => ("VerbAtDusk$Fault", "place", "I", false)
def tyX3 : Nat → FieldType := fun k => match k with
  | 0 => .object "java/lang/Throwable"
  | 1 => .array (.object "java/lang/StackTraceElement")
  | 2 => .object "java/util/List"
  | 3 => .object "java/lang/String"
  | 4 => .object "java/lang/Object"
  | 5 => .int
  | 6 => .int
  | _ => .int
abbrev wsX30 : List Cond := u_ws RX3 TX3 8
theorem nmX3 : ∀ a, a < 8 → ∀ b, b < 8 → a ≠ b → (TX3 a).2.1 ≠ (TX3 b).2.1 := by decide +kernel
theorem tyX3_ok : ∀ k, k < 8 → parseFieldDescriptor (TX3 k).2.2.1 = some (tyX3 k) := by decide +kernel
abbrev cX3_init : ByteArray := prog_7_method_1_code
def yX3_init : MethodName := ⟨RX3, "<init>", "()V"⟩
def dkwX3_init_0 : List UInt8 := [42, 1, 1, 3, 3, 183, 0, 1, 177]
abbrev dktX3_init_0 : List UInt8 := dkwX3_init_0 ++ []
theorem dksX3_init_0 : cX3_init.data.toList.drop 0 = dktX3_init_0 := by decide +kernel
theorem dX3_init_0 : decode cX3_init 0 = .ok (.aload_n 0, 1) := dk_42 (dk_at dksX3_init_0 0 rfl rfl)
theorem dX3_init_1 : decode cX3_init 1 = .ok (.aconst_null, 1) := dk_1 (dk_at dksX3_init_0 1 rfl rfl)
theorem dX3_init_2 : decode cX3_init 2 = .ok (.aconst_null, 1) := dk_1 (dk_at dksX3_init_0 2 rfl rfl)
theorem dX3_init_3 : decode cX3_init 3 = .ok (.iconst 0, 1) := dk_3 (dk_at dksX3_init_0 3 rfl rfl)
theorem dX3_init_4 : decode cX3_init 4 = .ok (.iconst 0, 1) := dk_3 (dk_at dksX3_init_0 4 rfl rfl)
theorem dX3_init_5 : decode cX3_init 5 = .ok (.invokespecial 1, 3) := dk_183 0 1 (dk_at dksX3_init_0 5 rfl rfl)
theorem dX3_init_8 : decode cX3_init 8 = .ok (.return_, 1) := dk_177 (dk_at dksX3_init_0 8 rfl rfl)
theorem q156 : (Jvm.Cond.initialized "VerbAtDusk$Fault") ∈ lw_all := lw_g (lw_at lw_m1 10 rfl) rfl
theorem q280 : (Jvm.Cond.instantiable "VerbAtDusk$Fault" (8 : Nat)) ∈ lw_all := lw_g (lw_at lw_m1 134 rfl) rfl
theorem q281 : (Jvm.Cond.castable "VerbAtDusk$Fault" "VerbAtDusk$Fault") ∈ lw_tbl := lw_at lw_m1 135 rfl
theorem q288 : (Jvm.Cond.selects "VerbAtDusk$Fault" ({ cls := "java/lang/Throwable", name := "fillInStackTrace", desc := "(I)Ljava/lang/Throwable;" } : Jvm.MethodName) ({ cls := "java/lang/Throwable", name := "fillInStackTrace", desc := "(I)Ljava/lang/Throwable;" } : Jvm.MethodName)) ∈ lw_all := lw_g (lw_at lw_m1 142 rfl) rfl
theorem q289 : (Jvm.Cond.selects "VerbAtDusk$Fault" ({ cls := "java/lang/Throwable", name := "fillInStackTrace", desc := "()Ljava/lang/Throwable;" } : Jvm.MethodName) ({ cls := "java/lang/Throwable", name := "fillInStackTrace", desc := "()Ljava/lang/Throwable;" } : Jvm.MethodName)) ∈ lw_all := lw_g (lw_at lw_m1 143 rfl) rfl
theorem q290 : (Jvm.Cond.lays "VerbAtDusk$Fault" "java/lang/Throwable" "cause" "Ljava/lang/Throwable;") ∈ lw_all := lw_g (lw_at lw_m1 144 rfl) rfl
theorem q292 : (Jvm.Cond.lays "VerbAtDusk$Fault" "java/lang/Throwable" "stackTrace" "[Ljava/lang/StackTraceElement;") ∈ lw_all := lw_g (lw_at lw_m1 146 rfl) rfl
theorem q294 : (Jvm.Cond.lays "VerbAtDusk$Fault" "java/lang/Throwable" "suppressedExceptions" "Ljava/util/List;") ∈ lw_all := lw_g (lw_at lw_m1 148 rfl) rfl
theorem q296 : (Jvm.Cond.lays "VerbAtDusk$Fault" "java/lang/Throwable" "detailMessage" "Ljava/lang/String;") ∈ lw_all := lw_g (lw_at lw_m1 150 rfl) rfl
theorem q298 : (Jvm.Cond.lays "VerbAtDusk$Fault" "java/lang/Throwable" "backtrace" "Ljava/lang/Object;") ∈ lw_all := lw_g (lw_at lw_m1 152 rfl) rfl
theorem q319 : (Jvm.Cond.instanceMethod ({ cls := "VerbAtDusk$Fault", name := "<init>", desc := "()V" } : Jvm.MethodName)) ∈ lw_all := lw_g (lw_at lw_m1 173 rfl) rfl
theorem q320 : (Jvm.Cond.code ({ cls := "VerbAtDusk$Fault", name := "<init>", desc := "()V" } : Jvm.MethodName) prog_7_method_1_code (1 : Nat) (Option.none : Option Jvm.ClassFile.FieldType)) ∈ lw_all := lw_g (lw_at lw_m1 174 rfl) rfl
theorem q321 : (Jvm.Cond.methodLink "VerbAtDusk$Fault" (1 : Nat) ({ cls := "java/lang/RuntimeException", name := "<init>", desc := "(Ljava/lang/String;Ljava/lang/Throwable;ZZ)V" } : Jvm.MethodName)) ∈ lw_all := lw_g (lw_at lw_m1 175 rfl) rfl
theorem q339 : (Jvm.Cond.lays "VerbAtDusk$Fault" "VerbAtDusk$Fault" "kind" "I") ∈ lw_all := lw_g (lw_at lw_m1 193 rfl) rfl
theorem q340 : (Jvm.Cond.soleField "VerbAtDusk$Fault" "kind") ∈ lw_all := lw_g (lw_at lw_m1 194 rfl) rfl
theorem q341 : (Jvm.Cond.lays "VerbAtDusk$Fault" "VerbAtDusk$Fault" "place" "I") ∈ lw_all := lw_g (lw_at lw_m1 195 rfl) rfl
theorem q342 : (Jvm.Cond.soleField "VerbAtDusk$Fault" "place") ∈ lw_all := lw_g (lw_at lw_m1 196 rfl) rfl
theorem q347 : (Jvm.Cond.lays "VerbAtDusk$Fault" "java/lang/Throwable" "depth" "I") ∈ lw_all := lw_g (lw_at lw_m1 201 rfl) rfl
theorem q350 : (Jvm.Cond.superclass "VerbAtDusk$Fault" "java/lang/RuntimeException") ∈ lw_all := lw_g (lw_at lw_m1 204 rfl) rfl
theorem q956 : (Jvm.Cond.selects "VerbAtDusk$Fault" ({ cls := "java/lang/Object", name := "getClass", desc := "()Ljava/lang/Class;" } : Jvm.MethodName) ({ cls := "java/lang/Object", name := "getClass", desc := "()Ljava/lang/Class;" } : Jvm.MethodName)) ∈ lw_all := lw_g (lw_at lw_m4 90 rfl) rfl
theorem q2647 : (Jvm.Cond.castable "VerbAtDusk$Fault" "java/lang/Object") ∈ lw_tbl := lw_at lw_m11 101 rfl
theorem in_X3 : ∀ w ∈ wsX30, w ∈ lw_all := lw_in wsX30 [290, 292, 294, 296, 298, 347, 339, 341] (by decide +kernel) (by decide +kernel)
/-! VerbAtDusk$Moment -/
set_option maxRecDepth 100000
def RX4 : String := "VerbAtDusk$Moment"
def TX4 : u_T := fun k => match k with
  | _ => ("VerbAtDusk$Moment", "of", "[J", true)
def tyX4 : Nat → FieldType := fun k => match k with
  | _ => .array .long
abbrev wsX40 : List Cond := u_ws RX4 TX4 1
theorem nmX4 : ∀ a, a < 1 → ∀ b, b < 1 → a ≠ b → (TX4 a).2.1 ≠ (TX4 b).2.1 := by decide +kernel
theorem tyX4_ok : ∀ k, k < 1 → parseFieldDescriptor (TX4 k).2.2.1 = some (tyX4 k) := by decide +kernel
abbrev cX4_init : ByteArray := prog_11_method_1_code
def yX4_init : MethodName := ⟨RX4, "<init>", "()V"⟩
def dkwX4_init_0 : List UInt8 := [42, 183, 0, 1, 42, 16, 9, 188, 11, 181, 0, 7, 177]
abbrev dktX4_init_0 : List UInt8 := dkwX4_init_0 ++ []
theorem dksX4_init_0 : cX4_init.data.toList.drop 0 = dktX4_init_0 := by decide +kernel
theorem dX4_init_0 : decode cX4_init 0 = .ok (.aload_n 0, 1) := dk_42 (dk_at dksX4_init_0 0 rfl rfl)
theorem dX4_init_1 : decode cX4_init 1 = .ok (.invokespecial 1, 3) := dk_183 0 1 (dk_at dksX4_init_0 1 rfl rfl)
theorem dX4_init_4 : decode cX4_init 4 = .ok (.aload_n 0, 1) := dk_42 (dk_at dksX4_init_0 4 rfl rfl)
theorem dX4_init_5 : decode cX4_init 5 = .ok (.bipush 9, 2) := dk_16 9 (dk_at dksX4_init_0 5 rfl rfl)
theorem dX4_init_7 : decode cX4_init 7 = .ok (.newarray .long, 2) := dk_188_11 (dk_at dksX4_init_0 7 rfl rfl)
theorem dX4_init_9 : decode cX4_init 9 = .ok (.putfield 7, 3) := dk_181 0 7 (dk_at dksX4_init_0 9 rfl rfl)
theorem dX4_init_12 : decode cX4_init 12 = .ok (.return_, 1) := dk_177 (dk_at dksX4_init_0 12 rfl rfl)
theorem q157 : (Jvm.Cond.initialized "VerbAtDusk$Moment") ∈ lw_all := lw_g (lw_at lw_m1 11 rfl) rfl
theorem q378 : (Jvm.Cond.instantiable "VerbAtDusk$Moment" (1 : Nat)) ∈ lw_all := lw_g (lw_at lw_m1 232 rfl) rfl
theorem q380 : (Jvm.Cond.instanceMethod ({ cls := "VerbAtDusk$Moment", name := "<init>", desc := "()V" } : Jvm.MethodName)) ∈ lw_all := lw_g (lw_at lw_m1 234 rfl) rfl
theorem q381 : (Jvm.Cond.code ({ cls := "VerbAtDusk$Moment", name := "<init>", desc := "()V" } : Jvm.MethodName) prog_11_method_1_code (1 : Nat) (Option.none : Option Jvm.ClassFile.FieldType)) ∈ lw_all := lw_g (lw_at lw_m1 235 rfl) rfl
theorem q382 : (Jvm.Cond.methodLink "VerbAtDusk$Moment" (1 : Nat) ({ cls := "java/lang/Object", name := "<init>", desc := "()V" } : Jvm.MethodName)) ∈ lw_all := lw_g (lw_at lw_m1 236 rfl) rfl
theorem q383 : (Jvm.Cond.fieldLink "VerbAtDusk$Moment" (7 : Nat) "VerbAtDusk$Moment" "of" "[J") ∈ lw_all := lw_g (lw_at lw_m1 237 rfl) rfl
theorem q387 : (Jvm.Cond.laysFinal "VerbAtDusk$Moment" "VerbAtDusk$Moment" "of" "[J") ∈ lw_all := lw_g (lw_at lw_m2 1 rfl) rfl
theorem q388 : (Jvm.Cond.soleField "VerbAtDusk$Moment" "of") ∈ lw_all := lw_g (lw_at lw_m2 2 rfl) rfl
theorem q389 : (Jvm.Cond.superclass "VerbAtDusk$Moment" "java/lang/Object") ∈ lw_all := lw_g (lw_at lw_m2 3 rfl) rfl
theorem q960 : (Jvm.Cond.selects "VerbAtDusk$Moment" ({ cls := "java/lang/Object", name := "getClass", desc := "()Ljava/lang/Class;" } : Jvm.MethodName) ({ cls := "java/lang/Object", name := "getClass", desc := "()Ljava/lang/Class;" } : Jvm.MethodName)) ∈ lw_all := lw_g (lw_at lw_m4 94 rfl) rfl
theorem q2648 : (Jvm.Cond.castable "VerbAtDusk$Moment" "java/lang/Object") ∈ lw_tbl := lw_at lw_m11 102 rfl
theorem in_X4 : ∀ w ∈ wsX40, w ∈ lw_all := lw_in wsX40 [387] (by decide +kernel) (by decide +kernel)
/-! VerbAtDusk$Walk -/
set_option maxRecDepth 100000
def RX5 : String := "VerbAtDusk$Walk"
def TX5 : u_T := fun k => match k with
  | 0 => ("VerbAtDusk$Walk", "order", "[I", true)
  | 1 => ("VerbAtDusk$Walk", "comes", "[I", true)
  | 2 => ("VerbAtDusk$Walk", "tried", "[I", true)
  | 3 => ("VerbAtDusk$Walk", "at", "[I", true)
  | 4 => ("VerbAtDusk$Walk", "least", "I", false)
  | _ => ("VerbAtDusk$Walk", "this$0", "LVerbAtDusk;", true)
def tyX5 : Nat → FieldType := fun k => match k with
  | 0 => .array .int
  | 1 => .array .int
  | 2 => .array .int
  | 3 => .array .int
  | 4 => .int
  | _ => .object "VerbAtDusk"
abbrev wsX50 : List Cond := u_ws RX5 TX5 6
theorem nmX5 : ∀ a, a < 6 → ∀ b, b < 6 → a ≠ b → (TX5 a).2.1 ≠ (TX5 b).2.1 := by decide +kernel
theorem tyX5_ok : ∀ k, k < 6 → parseFieldDescriptor (TX5 k).2.2.1 = some (tyX5 k) := by decide +kernel
abbrev cX5_init : ByteArray := prog_23_method_1_code
def yX5_init : MethodName := ⟨RX5, "<init>", "(LVerbAtDusk;)V"⟩
def dkwX5_init_1 : List UInt8 := [181, 0, 19, 42, 16, 6, 188, 10, 181, 0, 22, 42, 16, 6, 188, 10, 181, 0, 25, 177]
abbrev dktX5_init_1 : List UInt8 := dkwX5_init_1 ++ []
def dkwX5_init_0 : List UInt8 := [42, 43, 181, 0, 3, 42, 183, 0, 9, 42, 16, 6, 188, 10, 181, 0, 15, 42, 16, 6, 188, 10]
abbrev dktX5_init_0 : List UInt8 := dkwX5_init_0 ++ dktX5_init_1
theorem dksX5_init_0 : cX5_init.data.toList.drop 0 = dktX5_init_0 := by decide +kernel
theorem dksX5_init_1 : cX5_init.data.toList.drop 22 = dktX5_init_1 := dk_seg dksX5_init_0 22 rfl rfl
theorem dX5_init_0 : decode cX5_init 0 = .ok (.aload_n 0, 1) := dk_42 (dk_at dksX5_init_0 0 rfl rfl)
theorem dX5_init_1 : decode cX5_init 1 = .ok (.aload_n 1, 1) := dk_43 (dk_at dksX5_init_0 1 rfl rfl)
theorem dX5_init_2 : decode cX5_init 2 = .ok (.putfield 3, 3) := dk_181 0 3 (dk_at dksX5_init_0 2 rfl rfl)
theorem dX5_init_5 : decode cX5_init 5 = .ok (.aload_n 0, 1) := dk_42 (dk_at dksX5_init_0 5 rfl rfl)
theorem dX5_init_6 : decode cX5_init 6 = .ok (.invokespecial 9, 3) := dk_183 0 9 (dk_at dksX5_init_0 6 rfl rfl)
theorem dX5_init_9 : decode cX5_init 9 = .ok (.aload_n 0, 1) := dk_42 (dk_at dksX5_init_0 9 rfl rfl)
theorem dX5_init_10 : decode cX5_init 10 = .ok (.bipush 6, 2) := dk_16 6 (dk_at dksX5_init_0 10 rfl rfl)
theorem dX5_init_12 : decode cX5_init 12 = .ok (.newarray .int, 2) := dk_188_10 (dk_at dksX5_init_0 12 rfl rfl)
theorem dX5_init_14 : decode cX5_init 14 = .ok (.putfield 15, 3) := dk_181 0 15 (dk_at dksX5_init_0 14 rfl rfl)
theorem dX5_init_17 : decode cX5_init 17 = .ok (.aload_n 0, 1) := dk_42 (dk_at dksX5_init_0 17 rfl rfl)
theorem dX5_init_18 : decode cX5_init 18 = .ok (.bipush 6, 2) := dk_16 6 (dk_at dksX5_init_0 18 rfl rfl)
theorem dX5_init_20 : decode cX5_init 20 = .ok (.newarray .int, 2) := dk_188_10 (dk_at dksX5_init_0 20 rfl rfl)
theorem dX5_init_22 : decode cX5_init 22 = .ok (.putfield 19, 3) := dk_181 0 19 (dk_at dksX5_init_1 0 rfl rfl)
theorem dX5_init_25 : decode cX5_init 25 = .ok (.aload_n 0, 1) := dk_42 (dk_at dksX5_init_1 3 rfl rfl)
theorem dX5_init_26 : decode cX5_init 26 = .ok (.bipush 6, 2) := dk_16 6 (dk_at dksX5_init_1 4 rfl rfl)
theorem dX5_init_28 : decode cX5_init 28 = .ok (.newarray .int, 2) := dk_188_10 (dk_at dksX5_init_1 6 rfl rfl)
theorem dX5_init_30 : decode cX5_init 30 = .ok (.putfield 22, 3) := dk_181 0 22 (dk_at dksX5_init_1 8 rfl rfl)
theorem dX5_init_33 : decode cX5_init 33 = .ok (.aload_n 0, 1) := dk_42 (dk_at dksX5_init_1 11 rfl rfl)
theorem dX5_init_34 : decode cX5_init 34 = .ok (.bipush 6, 2) := dk_16 6 (dk_at dksX5_init_1 12 rfl rfl)
theorem dX5_init_36 : decode cX5_init 36 = .ok (.newarray .int, 2) := dk_188_10 (dk_at dksX5_init_1 14 rfl rfl)
theorem dX5_init_38 : decode cX5_init 38 = .ok (.putfield 25, 3) := dk_181 0 25 (dk_at dksX5_init_1 16 rfl rfl)
theorem dX5_init_41 : decode cX5_init 41 = .ok (.return_, 1) := dk_177 (dk_at dksX5_init_1 19 rfl rfl)
abbrev cX5_by : ByteArray := prog_23_method_3_code
def yX5_by : MethodName := ⟨RX5, "by", "(LVerbAtDusk$State;)LVerbAtDusk$Walk;"⟩
def dkwX5_by_1 : List UInt8 := [182, 0, 54, 42, 176]
abbrev dktX5_by_1 : List UInt8 := dkwX5_by_1 ++ []
def dkwX5_by_0 : List UInt8 := [42, 18, 58, 181, 0, 28, 42, 43, 3, 3, 3, 3, 4, 42, 180, 0, 3, 182, 0, 32, 120, 4, 100]
abbrev dktX5_by_0 : List UInt8 := dkwX5_by_0 ++ dktX5_by_1
theorem dksX5_by_0 : cX5_by.data.toList.drop 0 = dktX5_by_0 := by decide +kernel
theorem dksX5_by_1 : cX5_by.data.toList.drop 23 = dktX5_by_1 := dk_seg dksX5_by_0 23 rfl rfl
theorem dX5_by_0 : decode cX5_by 0 = .ok (.aload_n 0, 1) := dk_42 (dk_at dksX5_by_0 0 rfl rfl)
theorem dX5_by_1 : decode cX5_by 1 = .ok (.ldc 58, 2) := dk_18 58 (dk_at dksX5_by_0 1 rfl rfl)
theorem dX5_by_3 : decode cX5_by 3 = .ok (.putfield 28, 3) := dk_181 0 28 (dk_at dksX5_by_0 3 rfl rfl)
theorem dX5_by_6 : decode cX5_by 6 = .ok (.aload_n 0, 1) := dk_42 (dk_at dksX5_by_0 6 rfl rfl)
theorem dX5_by_7 : decode cX5_by 7 = .ok (.aload_n 1, 1) := dk_43 (dk_at dksX5_by_0 7 rfl rfl)
theorem dX5_by_8 : decode cX5_by 8 = .ok (.iconst 0, 1) := dk_3 (dk_at dksX5_by_0 8 rfl rfl)
theorem dX5_by_9 : decode cX5_by 9 = .ok (.iconst 0, 1) := dk_3 (dk_at dksX5_by_0 9 rfl rfl)
theorem dX5_by_10 : decode cX5_by 10 = .ok (.iconst 0, 1) := dk_3 (dk_at dksX5_by_0 10 rfl rfl)
theorem dX5_by_11 : decode cX5_by 11 = .ok (.iconst 0, 1) := dk_3 (dk_at dksX5_by_0 11 rfl rfl)
theorem dX5_by_12 : decode cX5_by 12 = .ok (.iconst 1, 1) := dk_4 (dk_at dksX5_by_0 12 rfl rfl)
theorem dX5_by_13 : decode cX5_by 13 = .ok (.aload_n 0, 1) := dk_42 (dk_at dksX5_by_0 13 rfl rfl)
theorem dX5_by_14 : decode cX5_by 14 = .ok (.getfield 3, 3) := dk_180 0 3 (dk_at dksX5_by_0 14 rfl rfl)
theorem dX5_by_17 : decode cX5_by 17 = .ok (.invokevirtual 32, 3) := dk_182 0 32 (dk_at dksX5_by_0 17 rfl rfl)
theorem dX5_by_20 : decode cX5_by 20 = .ok (.ishl, 1) := dk_120 (dk_at dksX5_by_0 20 rfl rfl)
theorem dX5_by_21 : decode cX5_by 21 = .ok (.iconst 1, 1) := dk_4 (dk_at dksX5_by_0 21 rfl rfl)
theorem dX5_by_22 : decode cX5_by 22 = .ok (.isub, 1) := dk_100 (dk_at dksX5_by_0 22 rfl rfl)
theorem dX5_by_23 : decode cX5_by 23 = .ok (.invokevirtual 54, 3) := dk_182 0 54 (dk_at dksX5_by_1 0 rfl rfl)
theorem dX5_by_26 : decode cX5_by 26 = .ok (.aload_n 0, 1) := dk_42 (dk_at dksX5_by_1 3 rfl rfl)
theorem dX5_by_27 : decode cX5_by 27 = .ok (.areturn, 1) := dk_176 (dk_at dksX5_by_1 4 rfl rfl)
abbrev cX5_goes : ByteArray := prog_23_method_2_code
def yX5_goes : MethodName := ⟨RX5, "goes", "(LVerbAtDusk$State;IIIII)V"⟩
def dkwX5_goes_7 : List UInt8 := [21, 6, 4, 21, 7, 120, 2, 130, 126, 182, 0, 54, 132, 7, 1, 167, 255, 148, 177]
abbrev dktX5_goes_7 : List UInt8 := dkwX5_goes_7 ++ []
def dkwX5_goes_6 : List UInt8 := [21, 8, 79, 42, 43, 28, 4, 96, 21, 8, 43, 180, 0, 40, 21, 7, 46, 43, 180, 0, 51, 21, 7, 46]
abbrev dktX5_goes_6 : List UInt8 := dkwX5_goes_6 ++ dktX5_goes_7
def dkwX5_goes_5 : List UInt8 := [46, 21, 5, 100, 184, 0, 45, 96, 54, 8, 42, 180, 0, 22, 28, 21, 7, 79, 42, 180, 0, 25, 28]
abbrev dktX5_goes_5 : List UInt8 := dkwX5_goes_5 ++ dktX5_goes_6
def dkwX5_goes_4 : List UInt8 := [167, 0, 83, 29, 43, 180, 0, 40, 21, 7, 46, 21, 4, 100, 184, 0, 45, 96, 43, 180, 0, 51, 21, 7]
abbrev dktX5_goes_4 : List UInt8 := dkwX5_goes_4 ++ dktX5_goes_5
def dkwX5_goes_3 : List UInt8 := [21, 7, 42, 180, 0, 3, 182, 0, 32, 162, 0, 102, 21, 6, 21, 7, 184, 0, 36, 154, 0, 6]
abbrev dktX5_goes_3 : List UInt8 := dkwX5_goes_3 ++ dktX5_goes_4
def dkwX5_goes_2 : List UInt8 := [180, 0, 22, 21, 7, 46, 42, 180, 0, 25, 21, 7, 46, 79, 132, 7, 1, 167, 255, 214, 177, 3, 54, 7]
abbrev dktX5_goes_2 : List UInt8 := dkwX5_goes_2 ++ dktX5_goes_3
def dkwX5_goes_1 : List UInt8 := [28, 162, 0, 42, 42, 180, 0, 15, 21, 7, 42, 180, 0, 22, 21, 7, 46, 79, 42, 180, 0, 19, 42]
abbrev dktX5_goes_1 : List UInt8 := dkwX5_goes_1 ++ dktX5_goes_2
def dkwX5_goes_0 : List UInt8 := [29, 42, 180, 0, 28, 161, 0, 4, 177, 21, 6, 154, 0, 57, 42, 29, 181, 0, 28, 3, 54, 7, 21, 7]
abbrev dktX5_goes_0 : List UInt8 := dkwX5_goes_0 ++ dktX5_goes_1
theorem dksX5_goes_0 : cX5_goes.data.toList.drop 0 = dktX5_goes_0 := by decide +kernel
theorem dksX5_goes_1 : cX5_goes.data.toList.drop 24 = dktX5_goes_1 := dk_seg dksX5_goes_0 24 rfl rfl
theorem dksX5_goes_2 : cX5_goes.data.toList.drop 47 = dktX5_goes_2 := dk_seg dksX5_goes_1 23 rfl rfl
theorem dksX5_goes_3 : cX5_goes.data.toList.drop 71 = dktX5_goes_3 := dk_seg dksX5_goes_2 24 rfl rfl
theorem dksX5_goes_4 : cX5_goes.data.toList.drop 93 = dktX5_goes_4 := dk_seg dksX5_goes_3 22 rfl rfl
theorem dksX5_goes_5 : cX5_goes.data.toList.drop 117 = dktX5_goes_5 := dk_seg dksX5_goes_4 24 rfl rfl
theorem dksX5_goes_6 : cX5_goes.data.toList.drop 140 = dktX5_goes_6 := dk_seg dksX5_goes_5 23 rfl rfl
theorem dksX5_goes_7 : cX5_goes.data.toList.drop 164 = dktX5_goes_7 := dk_seg dksX5_goes_6 24 rfl rfl
theorem dX5_goes_0 : decode cX5_goes 0 = .ok (.iload_n 3, 1) := dk_29 (dk_at dksX5_goes_0 0 rfl rfl)
theorem dX5_goes_1 : decode cX5_goes 1 = .ok (.aload_n 0, 1) := dk_42 (dk_at dksX5_goes_0 1 rfl rfl)
theorem dX5_goes_2 : decode cX5_goes 2 = .ok (.getfield 28, 3) := dk_180 0 28 (dk_at dksX5_goes_0 2 rfl rfl)
theorem dX5_goes_5 : decode cX5_goes 5 = .ok (.if_icmp .lt 4, 3) := dk_161 0 4 (dk_at dksX5_goes_0 5 rfl rfl)
theorem dX5_goes_8 : decode cX5_goes 8 = .ok (.return_, 1) := dk_177 (dk_at dksX5_goes_0 8 rfl rfl)
theorem dX5_goes_9 : decode cX5_goes 9 = .ok (.iload 6, 2) := dk_21 6 (dk_at dksX5_goes_0 9 rfl rfl)
theorem dX5_goes_11 : decode cX5_goes 11 = .ok (.ifCond .ne 57, 3) := dk_154 0 57 (dk_at dksX5_goes_0 11 rfl rfl)
theorem dX5_goes_14 : decode cX5_goes 14 = .ok (.aload_n 0, 1) := dk_42 (dk_at dksX5_goes_0 14 rfl rfl)
theorem dX5_goes_15 : decode cX5_goes 15 = .ok (.iload_n 3, 1) := dk_29 (dk_at dksX5_goes_0 15 rfl rfl)
theorem dX5_goes_16 : decode cX5_goes 16 = .ok (.putfield 28, 3) := dk_181 0 28 (dk_at dksX5_goes_0 16 rfl rfl)
theorem dX5_goes_19 : decode cX5_goes 19 = .ok (.iconst 0, 1) := dk_3 (dk_at dksX5_goes_0 19 rfl rfl)
theorem dX5_goes_20 : decode cX5_goes 20 = .ok (.istore 7, 2) := dk_54 7 (dk_at dksX5_goes_0 20 rfl rfl)
theorem dX5_goes_22 : decode cX5_goes 22 = .ok (.iload 7, 2) := dk_21 7 (dk_at dksX5_goes_0 22 rfl rfl)
theorem dX5_goes_24 : decode cX5_goes 24 = .ok (.iload_n 2, 1) := dk_28 (dk_at dksX5_goes_1 0 rfl rfl)
theorem dX5_goes_25 : decode cX5_goes 25 = .ok (.if_icmp .ge 42, 3) := dk_162 0 42 (dk_at dksX5_goes_1 1 rfl rfl)
theorem dX5_goes_28 : decode cX5_goes 28 = .ok (.aload_n 0, 1) := dk_42 (dk_at dksX5_goes_1 4 rfl rfl)
theorem dX5_goes_29 : decode cX5_goes 29 = .ok (.getfield 15, 3) := dk_180 0 15 (dk_at dksX5_goes_1 5 rfl rfl)
theorem dX5_goes_32 : decode cX5_goes 32 = .ok (.iload 7, 2) := dk_21 7 (dk_at dksX5_goes_1 8 rfl rfl)
theorem dX5_goes_34 : decode cX5_goes 34 = .ok (.aload_n 0, 1) := dk_42 (dk_at dksX5_goes_1 10 rfl rfl)
theorem dX5_goes_35 : decode cX5_goes 35 = .ok (.getfield 22, 3) := dk_180 0 22 (dk_at dksX5_goes_1 11 rfl rfl)
theorem dX5_goes_38 : decode cX5_goes 38 = .ok (.iload 7, 2) := dk_21 7 (dk_at dksX5_goes_1 14 rfl rfl)
theorem dX5_goes_40 : decode cX5_goes 40 = .ok (.iaload, 1) := dk_46 (dk_at dksX5_goes_1 16 rfl rfl)
theorem dX5_goes_41 : decode cX5_goes 41 = .ok (.iastore, 1) := dk_79 (dk_at dksX5_goes_1 17 rfl rfl)
theorem dX5_goes_42 : decode cX5_goes 42 = .ok (.aload_n 0, 1) := dk_42 (dk_at dksX5_goes_1 18 rfl rfl)
theorem dX5_goes_43 : decode cX5_goes 43 = .ok (.getfield 19, 3) := dk_180 0 19 (dk_at dksX5_goes_1 19 rfl rfl)
theorem dX5_goes_46 : decode cX5_goes 46 = .ok (.aload_n 0, 1) := dk_42 (dk_at dksX5_goes_1 22 rfl rfl)
theorem dX5_goes_47 : decode cX5_goes 47 = .ok (.getfield 22, 3) := dk_180 0 22 (dk_at dksX5_goes_2 0 rfl rfl)
theorem dX5_goes_50 : decode cX5_goes 50 = .ok (.iload 7, 2) := dk_21 7 (dk_at dksX5_goes_2 3 rfl rfl)
theorem dX5_goes_52 : decode cX5_goes 52 = .ok (.iaload, 1) := dk_46 (dk_at dksX5_goes_2 5 rfl rfl)
theorem dX5_goes_53 : decode cX5_goes 53 = .ok (.aload_n 0, 1) := dk_42 (dk_at dksX5_goes_2 6 rfl rfl)
theorem dX5_goes_54 : decode cX5_goes 54 = .ok (.getfield 25, 3) := dk_180 0 25 (dk_at dksX5_goes_2 7 rfl rfl)
theorem dX5_goes_57 : decode cX5_goes 57 = .ok (.iload 7, 2) := dk_21 7 (dk_at dksX5_goes_2 10 rfl rfl)
theorem dX5_goes_59 : decode cX5_goes 59 = .ok (.iaload, 1) := dk_46 (dk_at dksX5_goes_2 12 rfl rfl)
theorem dX5_goes_60 : decode cX5_goes 60 = .ok (.iastore, 1) := dk_79 (dk_at dksX5_goes_2 13 rfl rfl)
theorem dX5_goes_61 : decode cX5_goes 61 = .ok (.iinc 7 1, 3) := dk_132 7 1 (dk_at dksX5_goes_2 14 rfl rfl)
theorem dX5_goes_64 : decode cX5_goes 64 = .ok (.goto (-42), 3) := dk_167 255 214 (dk_at dksX5_goes_2 17 rfl rfl)
theorem dX5_goes_67 : decode cX5_goes 67 = .ok (.return_, 1) := dk_177 (dk_at dksX5_goes_2 20 rfl rfl)
theorem dX5_goes_68 : decode cX5_goes 68 = .ok (.iconst 0, 1) := dk_3 (dk_at dksX5_goes_2 21 rfl rfl)
theorem dX5_goes_69 : decode cX5_goes 69 = .ok (.istore 7, 2) := dk_54 7 (dk_at dksX5_goes_2 22 rfl rfl)
theorem dX5_goes_71 : decode cX5_goes 71 = .ok (.iload 7, 2) := dk_21 7 (dk_at dksX5_goes_3 0 rfl rfl)
theorem dX5_goes_73 : decode cX5_goes 73 = .ok (.aload_n 0, 1) := dk_42 (dk_at dksX5_goes_3 2 rfl rfl)
theorem dX5_goes_74 : decode cX5_goes 74 = .ok (.getfield 3, 3) := dk_180 0 3 (dk_at dksX5_goes_3 3 rfl rfl)
theorem dX5_goes_77 : decode cX5_goes 77 = .ok (.invokevirtual 32, 3) := dk_182 0 32 (dk_at dksX5_goes_3 6 rfl rfl)
theorem dX5_goes_80 : decode cX5_goes 80 = .ok (.if_icmp .ge 102, 3) := dk_162 0 102 (dk_at dksX5_goes_3 9 rfl rfl)
theorem dX5_goes_83 : decode cX5_goes 83 = .ok (.iload 6, 2) := dk_21 6 (dk_at dksX5_goes_3 12 rfl rfl)
theorem dX5_goes_85 : decode cX5_goes 85 = .ok (.iload 7, 2) := dk_21 7 (dk_at dksX5_goes_3 14 rfl rfl)
theorem dX5_goes_87 : decode cX5_goes 87 = .ok (.invokestatic 36, 3) := dk_184 0 36 (dk_at dksX5_goes_3 16 rfl rfl)
theorem dX5_goes_90 : decode cX5_goes 90 = .ok (.ifCond .ne 6, 3) := dk_154 0 6 (dk_at dksX5_goes_3 19 rfl rfl)
theorem dX5_goes_93 : decode cX5_goes 93 = .ok (.goto 83, 3) := dk_167 0 83 (dk_at dksX5_goes_4 0 rfl rfl)
theorem dX5_goes_96 : decode cX5_goes 96 = .ok (.iload_n 3, 1) := dk_29 (dk_at dksX5_goes_4 3 rfl rfl)
theorem dX5_goes_97 : decode cX5_goes 97 = .ok (.aload_n 1, 1) := dk_43 (dk_at dksX5_goes_4 4 rfl rfl)
theorem dX5_goes_98 : decode cX5_goes 98 = .ok (.getfield 40, 3) := dk_180 0 40 (dk_at dksX5_goes_4 5 rfl rfl)
theorem dX5_goes_101 : decode cX5_goes 101 = .ok (.iload 7, 2) := dk_21 7 (dk_at dksX5_goes_4 8 rfl rfl)
theorem dX5_goes_103 : decode cX5_goes 103 = .ok (.iaload, 1) := dk_46 (dk_at dksX5_goes_4 10 rfl rfl)
theorem dX5_goes_104 : decode cX5_goes 104 = .ok (.iload 4, 2) := dk_21 4 (dk_at dksX5_goes_4 11 rfl rfl)
theorem dX5_goes_106 : decode cX5_goes 106 = .ok (.isub, 1) := dk_100 (dk_at dksX5_goes_4 13 rfl rfl)
theorem dX5_goes_107 : decode cX5_goes 107 = .ok (.invokestatic 45, 3) := dk_184 0 45 (dk_at dksX5_goes_4 14 rfl rfl)
theorem dX5_goes_110 : decode cX5_goes 110 = .ok (.iadd, 1) := dk_96 (dk_at dksX5_goes_4 17 rfl rfl)
theorem dX5_goes_111 : decode cX5_goes 111 = .ok (.aload_n 1, 1) := dk_43 (dk_at dksX5_goes_4 18 rfl rfl)
theorem dX5_goes_112 : decode cX5_goes 112 = .ok (.getfield 51, 3) := dk_180 0 51 (dk_at dksX5_goes_4 19 rfl rfl)
theorem dX5_goes_115 : decode cX5_goes 115 = .ok (.iload 7, 2) := dk_21 7 (dk_at dksX5_goes_4 22 rfl rfl)
theorem dX5_goes_117 : decode cX5_goes 117 = .ok (.iaload, 1) := dk_46 (dk_at dksX5_goes_5 0 rfl rfl)
theorem dX5_goes_118 : decode cX5_goes 118 = .ok (.iload 5, 2) := dk_21 5 (dk_at dksX5_goes_5 1 rfl rfl)
theorem dX5_goes_120 : decode cX5_goes 120 = .ok (.isub, 1) := dk_100 (dk_at dksX5_goes_5 3 rfl rfl)
theorem dX5_goes_121 : decode cX5_goes 121 = .ok (.invokestatic 45, 3) := dk_184 0 45 (dk_at dksX5_goes_5 4 rfl rfl)
theorem dX5_goes_124 : decode cX5_goes 124 = .ok (.iadd, 1) := dk_96 (dk_at dksX5_goes_5 7 rfl rfl)
theorem dX5_goes_125 : decode cX5_goes 125 = .ok (.istore 8, 2) := dk_54 8 (dk_at dksX5_goes_5 8 rfl rfl)
theorem dX5_goes_127 : decode cX5_goes 127 = .ok (.aload_n 0, 1) := dk_42 (dk_at dksX5_goes_5 10 rfl rfl)
theorem dX5_goes_128 : decode cX5_goes 128 = .ok (.getfield 22, 3) := dk_180 0 22 (dk_at dksX5_goes_5 11 rfl rfl)
theorem dX5_goes_131 : decode cX5_goes 131 = .ok (.iload_n 2, 1) := dk_28 (dk_at dksX5_goes_5 14 rfl rfl)
theorem dX5_goes_132 : decode cX5_goes 132 = .ok (.iload 7, 2) := dk_21 7 (dk_at dksX5_goes_5 15 rfl rfl)
theorem dX5_goes_134 : decode cX5_goes 134 = .ok (.iastore, 1) := dk_79 (dk_at dksX5_goes_5 17 rfl rfl)
theorem dX5_goes_135 : decode cX5_goes 135 = .ok (.aload_n 0, 1) := dk_42 (dk_at dksX5_goes_5 18 rfl rfl)
theorem dX5_goes_136 : decode cX5_goes 136 = .ok (.getfield 25, 3) := dk_180 0 25 (dk_at dksX5_goes_5 19 rfl rfl)
theorem dX5_goes_139 : decode cX5_goes 139 = .ok (.iload_n 2, 1) := dk_28 (dk_at dksX5_goes_5 22 rfl rfl)
theorem dX5_goes_140 : decode cX5_goes 140 = .ok (.iload 8, 2) := dk_21 8 (dk_at dksX5_goes_6 0 rfl rfl)
theorem dX5_goes_142 : decode cX5_goes 142 = .ok (.iastore, 1) := dk_79 (dk_at dksX5_goes_6 2 rfl rfl)
theorem dX5_goes_143 : decode cX5_goes 143 = .ok (.aload_n 0, 1) := dk_42 (dk_at dksX5_goes_6 3 rfl rfl)
theorem dX5_goes_144 : decode cX5_goes 144 = .ok (.aload_n 1, 1) := dk_43 (dk_at dksX5_goes_6 4 rfl rfl)
theorem dX5_goes_145 : decode cX5_goes 145 = .ok (.iload_n 2, 1) := dk_28 (dk_at dksX5_goes_6 5 rfl rfl)
theorem dX5_goes_146 : decode cX5_goes 146 = .ok (.iconst 1, 1) := dk_4 (dk_at dksX5_goes_6 6 rfl rfl)
theorem dX5_goes_147 : decode cX5_goes 147 = .ok (.iadd, 1) := dk_96 (dk_at dksX5_goes_6 7 rfl rfl)
theorem dX5_goes_148 : decode cX5_goes 148 = .ok (.iload 8, 2) := dk_21 8 (dk_at dksX5_goes_6 8 rfl rfl)
theorem dX5_goes_150 : decode cX5_goes 150 = .ok (.aload_n 1, 1) := dk_43 (dk_at dksX5_goes_6 10 rfl rfl)
theorem dX5_goes_151 : decode cX5_goes 151 = .ok (.getfield 40, 3) := dk_180 0 40 (dk_at dksX5_goes_6 11 rfl rfl)
theorem dX5_goes_154 : decode cX5_goes 154 = .ok (.iload 7, 2) := dk_21 7 (dk_at dksX5_goes_6 14 rfl rfl)
theorem dX5_goes_156 : decode cX5_goes 156 = .ok (.iaload, 1) := dk_46 (dk_at dksX5_goes_6 16 rfl rfl)
theorem dX5_goes_157 : decode cX5_goes 157 = .ok (.aload_n 1, 1) := dk_43 (dk_at dksX5_goes_6 17 rfl rfl)
theorem dX5_goes_158 : decode cX5_goes 158 = .ok (.getfield 51, 3) := dk_180 0 51 (dk_at dksX5_goes_6 18 rfl rfl)
theorem dX5_goes_161 : decode cX5_goes 161 = .ok (.iload 7, 2) := dk_21 7 (dk_at dksX5_goes_6 21 rfl rfl)
theorem dX5_goes_163 : decode cX5_goes 163 = .ok (.iaload, 1) := dk_46 (dk_at dksX5_goes_6 23 rfl rfl)
theorem dX5_goes_164 : decode cX5_goes 164 = .ok (.iload 6, 2) := dk_21 6 (dk_at dksX5_goes_7 0 rfl rfl)
theorem dX5_goes_166 : decode cX5_goes 166 = .ok (.iconst 1, 1) := dk_4 (dk_at dksX5_goes_7 2 rfl rfl)
theorem dX5_goes_167 : decode cX5_goes 167 = .ok (.iload 7, 2) := dk_21 7 (dk_at dksX5_goes_7 3 rfl rfl)
theorem dX5_goes_169 : decode cX5_goes 169 = .ok (.ishl, 1) := dk_120 (dk_at dksX5_goes_7 5 rfl rfl)
theorem dX5_goes_170 : decode cX5_goes 170 = .ok (.iconst (-1), 1) := dk_2 (dk_at dksX5_goes_7 6 rfl rfl)
theorem dX5_goes_171 : decode cX5_goes 171 = .ok (.ixor, 1) := dk_130 (dk_at dksX5_goes_7 7 rfl rfl)
theorem dX5_goes_172 : decode cX5_goes 172 = .ok (.iand, 1) := dk_126 (dk_at dksX5_goes_7 8 rfl rfl)
theorem dX5_goes_173 : decode cX5_goes 173 = .ok (.invokevirtual 54, 3) := dk_182 0 54 (dk_at dksX5_goes_7 9 rfl rfl)
theorem dX5_goes_176 : decode cX5_goes 176 = .ok (.iinc 7 1, 3) := dk_132 7 1 (dk_at dksX5_goes_7 12 rfl rfl)
theorem dX5_goes_179 : decode cX5_goes 179 = .ok (.goto (-108), 3) := dk_167 255 148 (dk_at dksX5_goes_7 15 rfl rfl)
theorem dX5_goes_182 : decode cX5_goes 182 = .ok (.return_, 1) := dk_177 (dk_at dksX5_goes_7 18 rfl rfl)
abbrev cX5_dark : ByteArray := prog_23_method_4_code
def yX5_dark : MethodName := ⟨RX5, "dark", "()I"⟩
def dkwX5_dark_2 : List UInt8 := [167, 255, 213, 27, 172]
abbrev dktX5_dark_2 : List UInt8 := dkwX5_dark_2 ++ []
def dkwX5_dark_1 : List UInt8 := [180, 0, 3, 180, 0, 59, 180, 0, 63, 164, 0, 9, 4, 28, 120, 167, 0, 4, 3, 128, 60, 132, 2, 1]
abbrev dktX5_dark_1 : List UInt8 := dkwX5_dark_1 ++ dktX5_dark_2
def dkwX5_dark_0 : List UInt8 := [3, 60, 3, 61, 28, 42, 180, 0, 3, 182, 0, 32, 162, 0, 38, 27, 42, 180, 0, 19, 28, 46, 42]
abbrev dktX5_dark_0 : List UInt8 := dkwX5_dark_0 ++ dktX5_dark_1
theorem dksX5_dark_0 : cX5_dark.data.toList.drop 0 = dktX5_dark_0 := by decide +kernel
theorem dksX5_dark_1 : cX5_dark.data.toList.drop 23 = dktX5_dark_1 := dk_seg dksX5_dark_0 23 rfl rfl
theorem dksX5_dark_2 : cX5_dark.data.toList.drop 47 = dktX5_dark_2 := dk_seg dksX5_dark_1 24 rfl rfl
theorem dX5_dark_0 : decode cX5_dark 0 = .ok (.iconst 0, 1) := dk_3 (dk_at dksX5_dark_0 0 rfl rfl)
theorem dX5_dark_1 : decode cX5_dark 1 = .ok (.istore_n 1, 1) := dk_60 (dk_at dksX5_dark_0 1 rfl rfl)
theorem dX5_dark_2 : decode cX5_dark 2 = .ok (.iconst 0, 1) := dk_3 (dk_at dksX5_dark_0 2 rfl rfl)
theorem dX5_dark_3 : decode cX5_dark 3 = .ok (.istore_n 2, 1) := dk_61 (dk_at dksX5_dark_0 3 rfl rfl)
theorem dX5_dark_4 : decode cX5_dark 4 = .ok (.iload_n 2, 1) := dk_28 (dk_at dksX5_dark_0 4 rfl rfl)
theorem dX5_dark_5 : decode cX5_dark 5 = .ok (.aload_n 0, 1) := dk_42 (dk_at dksX5_dark_0 5 rfl rfl)
theorem dX5_dark_6 : decode cX5_dark 6 = .ok (.getfield 3, 3) := dk_180 0 3 (dk_at dksX5_dark_0 6 rfl rfl)
theorem dX5_dark_9 : decode cX5_dark 9 = .ok (.invokevirtual 32, 3) := dk_182 0 32 (dk_at dksX5_dark_0 9 rfl rfl)
theorem dX5_dark_12 : decode cX5_dark 12 = .ok (.if_icmp .ge 38, 3) := dk_162 0 38 (dk_at dksX5_dark_0 12 rfl rfl)
theorem dX5_dark_15 : decode cX5_dark 15 = .ok (.iload_n 1, 1) := dk_27 (dk_at dksX5_dark_0 15 rfl rfl)
theorem dX5_dark_16 : decode cX5_dark 16 = .ok (.aload_n 0, 1) := dk_42 (dk_at dksX5_dark_0 16 rfl rfl)
theorem dX5_dark_17 : decode cX5_dark 17 = .ok (.getfield 19, 3) := dk_180 0 19 (dk_at dksX5_dark_0 17 rfl rfl)
theorem dX5_dark_20 : decode cX5_dark 20 = .ok (.iload_n 2, 1) := dk_28 (dk_at dksX5_dark_0 20 rfl rfl)
theorem dX5_dark_21 : decode cX5_dark 21 = .ok (.iaload, 1) := dk_46 (dk_at dksX5_dark_0 21 rfl rfl)
theorem dX5_dark_22 : decode cX5_dark 22 = .ok (.aload_n 0, 1) := dk_42 (dk_at dksX5_dark_0 22 rfl rfl)
theorem dX5_dark_23 : decode cX5_dark 23 = .ok (.getfield 3, 3) := dk_180 0 3 (dk_at dksX5_dark_1 0 rfl rfl)
theorem dX5_dark_26 : decode cX5_dark 26 = .ok (.getfield 59, 3) := dk_180 0 59 (dk_at dksX5_dark_1 3 rfl rfl)
theorem dX5_dark_29 : decode cX5_dark 29 = .ok (.getfield 63, 3) := dk_180 0 63 (dk_at dksX5_dark_1 6 rfl rfl)
theorem dX5_dark_32 : decode cX5_dark 32 = .ok (.if_icmp .le 9, 3) := dk_164 0 9 (dk_at dksX5_dark_1 9 rfl rfl)
theorem dX5_dark_35 : decode cX5_dark 35 = .ok (.iconst 1, 1) := dk_4 (dk_at dksX5_dark_1 12 rfl rfl)
theorem dX5_dark_36 : decode cX5_dark 36 = .ok (.iload_n 2, 1) := dk_28 (dk_at dksX5_dark_1 13 rfl rfl)
theorem dX5_dark_37 : decode cX5_dark 37 = .ok (.ishl, 1) := dk_120 (dk_at dksX5_dark_1 14 rfl rfl)
theorem dX5_dark_38 : decode cX5_dark 38 = .ok (.goto 4, 3) := dk_167 0 4 (dk_at dksX5_dark_1 15 rfl rfl)
theorem dX5_dark_41 : decode cX5_dark 41 = .ok (.iconst 0, 1) := dk_3 (dk_at dksX5_dark_1 18 rfl rfl)
theorem dX5_dark_42 : decode cX5_dark 42 = .ok (.ior, 1) := dk_128 (dk_at dksX5_dark_1 19 rfl rfl)
theorem dX5_dark_43 : decode cX5_dark 43 = .ok (.istore_n 1, 1) := dk_60 (dk_at dksX5_dark_1 20 rfl rfl)
theorem dX5_dark_44 : decode cX5_dark 44 = .ok (.iinc 2 1, 3) := dk_132 2 1 (dk_at dksX5_dark_1 21 rfl rfl)
theorem dX5_dark_47 : decode cX5_dark 47 = .ok (.goto (-43), 3) := dk_167 255 213 (dk_at dksX5_dark_2 0 rfl rfl)
theorem dX5_dark_50 : decode cX5_dark 50 = .ok (.iload_n 1, 1) := dk_27 (dk_at dksX5_dark_2 3 rfl rfl)
theorem dX5_dark_51 : decode cX5_dark 51 = .ok (.ireturn, 1) := dk_172 (dk_at dksX5_dark_2 4 rfl rfl)
theorem q158 : (Jvm.Cond.initialized "VerbAtDusk$Walk") ∈ lw_all := lw_g (lw_at lw_m1 12 rfl) rfl
theorem q233 : (Jvm.Cond.fieldLinkNest "VerbAtDusk$Walk" (63 : Nat) "VerbAtDusk$Country" "dusk" "I" "VerbAtDusk") ∈ lw_tbl := lw_at lw_m1 87 rfl
theorem q392 : (Jvm.Cond.instantiable "VerbAtDusk$Walk" (6 : Nat)) ∈ lw_all := lw_g (lw_at lw_m2 6 rfl) rfl
theorem q394 : (Jvm.Cond.instanceMethod ({ cls := "VerbAtDusk$Walk", name := "<init>", desc := "(LVerbAtDusk;)V" } : Jvm.MethodName)) ∈ lw_all := lw_g (lw_at lw_m2 8 rfl) rfl
theorem q395 : (Jvm.Cond.code ({ cls := "VerbAtDusk$Walk", name := "<init>", desc := "(LVerbAtDusk;)V" } : Jvm.MethodName) prog_23_method_1_code (2 : Nat) (Option.none : Option Jvm.ClassFile.FieldType)) ∈ lw_all := lw_g (lw_at lw_m2 9 rfl) rfl
theorem q396 : (Jvm.Cond.methodLink "VerbAtDusk$Walk" (9 : Nat) ({ cls := "java/lang/Object", name := "<init>", desc := "()V" } : Jvm.MethodName)) ∈ lw_all := lw_g (lw_at lw_m2 10 rfl) rfl
theorem q397 : (Jvm.Cond.fieldLink "VerbAtDusk$Walk" (15 : Nat) "VerbAtDusk$Walk" "order" "[I") ∈ lw_all := lw_g (lw_at lw_m2 11 rfl) rfl
theorem q399 : (Jvm.Cond.fieldLink "VerbAtDusk$Walk" (19 : Nat) "VerbAtDusk$Walk" "comes" "[I") ∈ lw_all := lw_g (lw_at lw_m2 13 rfl) rfl
theorem q400 : (Jvm.Cond.fieldLink "VerbAtDusk$Walk" (22 : Nat) "VerbAtDusk$Walk" "tried" "[I") ∈ lw_all := lw_g (lw_at lw_m2 14 rfl) rfl
theorem q401 : (Jvm.Cond.fieldLink "VerbAtDusk$Walk" (25 : Nat) "VerbAtDusk$Walk" "at" "[I") ∈ lw_all := lw_g (lw_at lw_m2 15 rfl) rfl
theorem q402 : (Jvm.Cond.fieldLink "VerbAtDusk$Walk" (28 : Nat) "VerbAtDusk$Walk" "least" "I") ∈ lw_all := lw_g (lw_at lw_m2 16 rfl) rfl
theorem q404 : (Jvm.Cond.fieldLink "VerbAtDusk$Walk" (3 : Nat) "VerbAtDusk$Walk" "this$0" "LVerbAtDusk;") ∈ lw_all := lw_g (lw_at lw_m2 18 rfl) rfl
theorem q405 : (Jvm.Cond.laysFinal "VerbAtDusk$Walk" "VerbAtDusk$Walk" "order" "[I") ∈ lw_all := lw_g (lw_at lw_m2 19 rfl) rfl
theorem q406 : (Jvm.Cond.soleField "VerbAtDusk$Walk" "order") ∈ lw_all := lw_g (lw_at lw_m2 20 rfl) rfl
theorem q407 : (Jvm.Cond.laysFinal "VerbAtDusk$Walk" "VerbAtDusk$Walk" "comes" "[I") ∈ lw_all := lw_g (lw_at lw_m2 21 rfl) rfl
theorem q408 : (Jvm.Cond.soleField "VerbAtDusk$Walk" "comes") ∈ lw_all := lw_g (lw_at lw_m2 22 rfl) rfl
theorem q409 : (Jvm.Cond.laysFinal "VerbAtDusk$Walk" "VerbAtDusk$Walk" "tried" "[I") ∈ lw_all := lw_g (lw_at lw_m2 23 rfl) rfl
theorem q410 : (Jvm.Cond.soleField "VerbAtDusk$Walk" "tried") ∈ lw_all := lw_g (lw_at lw_m2 24 rfl) rfl
theorem q411 : (Jvm.Cond.laysFinal "VerbAtDusk$Walk" "VerbAtDusk$Walk" "at" "[I") ∈ lw_all := lw_g (lw_at lw_m2 25 rfl) rfl
theorem q412 : (Jvm.Cond.soleField "VerbAtDusk$Walk" "at") ∈ lw_all := lw_g (lw_at lw_m2 26 rfl) rfl
theorem q413 : (Jvm.Cond.lays "VerbAtDusk$Walk" "VerbAtDusk$Walk" "least" "I") ∈ lw_all := lw_g (lw_at lw_m2 27 rfl) rfl
theorem q414 : (Jvm.Cond.soleField "VerbAtDusk$Walk" "least") ∈ lw_all := lw_g (lw_at lw_m2 28 rfl) rfl
theorem q415 : (Jvm.Cond.laysFinal "VerbAtDusk$Walk" "VerbAtDusk$Walk" "this$0" "LVerbAtDusk;") ∈ lw_all := lw_g (lw_at lw_m2 29 rfl) rfl
theorem q416 : (Jvm.Cond.soleField "VerbAtDusk$Walk" "this$0") ∈ lw_all := lw_g (lw_at lw_m2 30 rfl) rfl
theorem q417 : (Jvm.Cond.superclass "VerbAtDusk$Walk" "java/lang/Object") ∈ lw_all := lw_g (lw_at lw_m2 31 rfl) rfl
theorem q480 : (Jvm.Cond.fieldLinkNest "VerbAtDusk$Walk" (40 : Nat) "VerbAtDusk$State" "column" "[I" "VerbAtDusk") ∈ lw_tbl := lw_at lw_m2 94 rfl
theorem q483 : (Jvm.Cond.fieldLinkNest "VerbAtDusk$Walk" (51 : Nat) "VerbAtDusk$State" "row" "[I" "VerbAtDusk") ∈ lw_tbl := lw_at lw_m2 97 rfl
theorem q518 : (Jvm.Cond.fieldLinkNest "VerbAtDusk$Walk" (59 : Nat) "VerbAtDusk" "country" "LVerbAtDusk$Country;" "VerbAtDusk") ∈ lw_tbl := lw_at lw_m2 132 rfl
theorem q969 : (Jvm.Cond.selects "VerbAtDusk$Walk" ({ cls := "java/lang/Object", name := "getClass", desc := "()Ljava/lang/Class;" } : Jvm.MethodName) ({ cls := "java/lang/Object", name := "getClass", desc := "()Ljava/lang/Class;" } : Jvm.MethodName)) ∈ lw_all := lw_g (lw_at lw_m4 103 rfl) rfl
theorem q1471 : (Jvm.Cond.instanceMethod ({ cls := "VerbAtDusk$Walk", name := "by", desc := "(LVerbAtDusk$State;)LVerbAtDusk$Walk;" } : Jvm.MethodName)) ∈ lw_all := lw_g (lw_at lw_m6 125 rfl) rfl
theorem q1472 : (Jvm.Cond.selects "VerbAtDusk$Walk" ({ cls := "VerbAtDusk$Walk", name := "by", desc := "(LVerbAtDusk$State;)LVerbAtDusk$Walk;" } : Jvm.MethodName) ({ cls := "VerbAtDusk$Walk", name := "by", desc := "(LVerbAtDusk$State;)LVerbAtDusk$Walk;" } : Jvm.MethodName)) ∈ lw_all := lw_g (lw_at lw_m6 126 rfl) rfl
theorem q1473 : (Jvm.Cond.code ({ cls := "VerbAtDusk$Walk", name := "by", desc := "(LVerbAtDusk$State;)LVerbAtDusk$Walk;" } : Jvm.MethodName) prog_23_method_3_code (2 : Nat) (Option.some (Jvm.ClassFile.FieldType.object "VerbAtDusk$Walk"))) ∈ lw_all := lw_g (lw_at lw_m6 127 rfl) rfl
theorem q1474 : (Jvm.Cond.constant "VerbAtDusk$Walk" (58 : Nat) (100000000 : Int32)) ∈ lw_all := lw_g (lw_at lw_m6 128 rfl) rfl
theorem q1475 : (Jvm.Cond.methodLinkNest "VerbAtDusk$Walk" (32 : Nat) ({ cls := "VerbAtDusk", name := "sayings", desc := "()I" } : Jvm.MethodName) "VerbAtDusk") ∈ lw_tbl := lw_at lw_m6 129 rfl
theorem q1476 : (Jvm.Cond.methodLink "VerbAtDusk$Walk" (54 : Nat) ({ cls := "VerbAtDusk$Walk", name := "goes", desc := "(LVerbAtDusk$State;IIIII)V" } : Jvm.MethodName)) ∈ lw_all := lw_g (lw_at lw_m6 130 rfl) rfl
theorem q1477 : (Jvm.Cond.privateMethod ({ cls := "VerbAtDusk$Walk", name := "goes", desc := "(LVerbAtDusk$State;IIIII)V" } : Jvm.MethodName)) ∈ lw_tbl := lw_at lw_m6 131 rfl
theorem q1478 : (Jvm.Cond.instanceMethod ({ cls := "VerbAtDusk$Walk", name := "goes", desc := "(LVerbAtDusk$State;IIIII)V" } : Jvm.MethodName)) ∈ lw_all := lw_g (lw_at lw_m6 132 rfl) rfl
theorem q1479 : (Jvm.Cond.code ({ cls := "VerbAtDusk$Walk", name := "goes", desc := "(LVerbAtDusk$State;IIIII)V" } : Jvm.MethodName) prog_23_method_2_code (9 : Nat) (Option.none : Option Jvm.ClassFile.FieldType)) ∈ lw_all := lw_g (lw_at lw_m6 133 rfl) rfl
theorem q1480 : (Jvm.Cond.methodLinkNest "VerbAtDusk$Walk" (36 : Nat) ({ cls := "VerbAtDusk", name := "has", desc := "(II)Z" } : Jvm.MethodName) "VerbAtDusk") ∈ lw_tbl := lw_at lw_m6 134 rfl
theorem q1481 : (Jvm.Cond.methodLink "VerbAtDusk$Walk" (45 : Nat) ({ cls := "java/lang/Math", name := "abs", desc := "(I)I" } : Jvm.MethodName)) ∈ lw_all := lw_g (lw_at lw_m6 135 rfl) rfl
theorem q1485 : (Jvm.Cond.instanceMethod ({ cls := "VerbAtDusk$Walk", name := "dark", desc := "()I" } : Jvm.MethodName)) ∈ lw_all := lw_g (lw_at lw_m6 139 rfl) rfl
theorem q1486 : (Jvm.Cond.selects "VerbAtDusk$Walk" ({ cls := "VerbAtDusk$Walk", name := "dark", desc := "()I" } : Jvm.MethodName) ({ cls := "VerbAtDusk$Walk", name := "dark", desc := "()I" } : Jvm.MethodName)) ∈ lw_all := lw_g (lw_at lw_m6 140 rfl) rfl
theorem q1487 : (Jvm.Cond.code ({ cls := "VerbAtDusk$Walk", name := "dark", desc := "()I" } : Jvm.MethodName) prog_23_method_4_code (3 : Nat) (Option.some Jvm.ClassFile.FieldType.int)) ∈ lw_all := lw_g (lw_at lw_m6 141 rfl) rfl
theorem q2649 : (Jvm.Cond.castable "VerbAtDusk$Walk" "java/lang/Object") ∈ lw_tbl := lw_at lw_m11 103 rfl
theorem in_X5 : ∀ w ∈ wsX50, w ∈ lw_all := lw_in wsX50 [405, 407, 409, 411, 413, 415] (by decide +kernel) (by decide +kernel)
/-! VerbAtDusk$Giving -/
set_option maxRecDepth 100000
def RX6 : String := "VerbAtDusk$Giving"
def TX6 : u_T := fun k => match k with
  | 0 => ("VerbAtDusk$Giving", "can", "[[Z", true)
  | 1 => ("VerbAtDusk$Giving", "well", "[[J", true)
  | 2 => ("VerbAtDusk$Giving", "best", "[I", true)
  | 3 => ("VerbAtDusk$Giving", "tried", "[I", true)
  | 4 => ("VerbAtDusk$Giving", "sack", "I", false)
  | 5 => ("VerbAtDusk$Giving", "is", "Z", false)
  | 6 => ("VerbAtDusk$Giving", "most", "J", false)
  | 7 => ("VerbAtDusk$Giving", "fewest", "I", false)
  | _ => ("VerbAtDusk$Giving", "this$0", "LVerbAtDusk;", true)
def tyX6 : Nat → FieldType := fun k => match k with
  | 0 => .array (.array .boolean)
  | 1 => .array (.array .long)
  | 2 => .array .int
  | 3 => .array .int
  | 4 => .int
  | 5 => .boolean
  | 6 => .long
  | 7 => .int
  | _ => .object "VerbAtDusk"
abbrev wsX60 : List Cond := u_ws RX6 TX6 9
theorem nmX6 : ∀ a, a < 9 → ∀ b, b < 9 → a ≠ b → (TX6 a).2.1 ≠ (TX6 b).2.1 := by decide +kernel
theorem tyX6_ok : ∀ k, k < 9 → parseFieldDescriptor (TX6 k).2.2.1 = some (tyX6 k) := by decide +kernel
abbrev cX6_init : ByteArray := prog_9_method_1_code
def yX6_init : MethodName := ⟨RX6, "<init>", "(LVerbAtDusk;)V"⟩
def dkwX6_init_2 : List UInt8 := [181, 0, 29, 177]
abbrev dktX6_init_2 : List UInt8 := dkwX6_init_2 ++ []
def dkwX6_init_1 : List UInt8 := [16, 7, 197, 0, 20, 2, 181, 0, 22, 42, 16, 6, 188, 10, 181, 0, 25, 42, 16, 6, 188, 10]
abbrev dktX6_init_1 : List UInt8 := dkwX6_init_1 ++ dktX6_init_2
def dkwX6_init_0 : List UInt8 := [42, 43, 181, 0, 3, 42, 183, 0, 9, 42, 16, 6, 16, 7, 197, 0, 15, 2, 181, 0, 17, 42, 16, 6]
abbrev dktX6_init_0 : List UInt8 := dkwX6_init_0 ++ dktX6_init_1
theorem dksX6_init_0 : cX6_init.data.toList.drop 0 = dktX6_init_0 := by decide +kernel
theorem dksX6_init_1 : cX6_init.data.toList.drop 24 = dktX6_init_1 := dk_seg dksX6_init_0 24 rfl rfl
theorem dksX6_init_2 : cX6_init.data.toList.drop 46 = dktX6_init_2 := dk_seg dksX6_init_1 22 rfl rfl
theorem dX6_init_0 : decode cX6_init 0 = .ok (.aload_n 0, 1) := dk_42 (dk_at dksX6_init_0 0 rfl rfl)
theorem dX6_init_1 : decode cX6_init 1 = .ok (.aload_n 1, 1) := dk_43 (dk_at dksX6_init_0 1 rfl rfl)
theorem dX6_init_2 : decode cX6_init 2 = .ok (.putfield 3, 3) := dk_181 0 3 (dk_at dksX6_init_0 2 rfl rfl)
theorem dX6_init_5 : decode cX6_init 5 = .ok (.aload_n 0, 1) := dk_42 (dk_at dksX6_init_0 5 rfl rfl)
theorem dX6_init_6 : decode cX6_init 6 = .ok (.invokespecial 9, 3) := dk_183 0 9 (dk_at dksX6_init_0 6 rfl rfl)
theorem dX6_init_9 : decode cX6_init 9 = .ok (.aload_n 0, 1) := dk_42 (dk_at dksX6_init_0 9 rfl rfl)
theorem dX6_init_10 : decode cX6_init 10 = .ok (.bipush 6, 2) := dk_16 6 (dk_at dksX6_init_0 10 rfl rfl)
theorem dX6_init_12 : decode cX6_init 12 = .ok (.bipush 7, 2) := dk_16 7 (dk_at dksX6_init_0 12 rfl rfl)
theorem dX6_init_14 : decode cX6_init 14 = .ok (.multianewarray 15 2, 4) := by decide +kernel
theorem dX6_init_18 : decode cX6_init 18 = .ok (.putfield 17, 3) := dk_181 0 17 (dk_at dksX6_init_0 18 rfl rfl)
theorem dX6_init_21 : decode cX6_init 21 = .ok (.aload_n 0, 1) := dk_42 (dk_at dksX6_init_0 21 rfl rfl)
theorem dX6_init_22 : decode cX6_init 22 = .ok (.bipush 6, 2) := dk_16 6 (dk_at dksX6_init_0 22 rfl rfl)
theorem dX6_init_24 : decode cX6_init 24 = .ok (.bipush 7, 2) := dk_16 7 (dk_at dksX6_init_1 0 rfl rfl)
theorem dX6_init_26 : decode cX6_init 26 = .ok (.multianewarray 20 2, 4) := by decide +kernel
theorem dX6_init_30 : decode cX6_init 30 = .ok (.putfield 22, 3) := dk_181 0 22 (dk_at dksX6_init_1 6 rfl rfl)
theorem dX6_init_33 : decode cX6_init 33 = .ok (.aload_n 0, 1) := dk_42 (dk_at dksX6_init_1 9 rfl rfl)
theorem dX6_init_34 : decode cX6_init 34 = .ok (.bipush 6, 2) := dk_16 6 (dk_at dksX6_init_1 10 rfl rfl)
theorem dX6_init_36 : decode cX6_init 36 = .ok (.newarray .int, 2) := dk_188_10 (dk_at dksX6_init_1 12 rfl rfl)
theorem dX6_init_38 : decode cX6_init 38 = .ok (.putfield 25, 3) := dk_181 0 25 (dk_at dksX6_init_1 14 rfl rfl)
theorem dX6_init_41 : decode cX6_init 41 = .ok (.aload_n 0, 1) := dk_42 (dk_at dksX6_init_1 17 rfl rfl)
theorem dX6_init_42 : decode cX6_init 42 = .ok (.bipush 6, 2) := dk_16 6 (dk_at dksX6_init_1 18 rfl rfl)
theorem dX6_init_44 : decode cX6_init 44 = .ok (.newarray .int, 2) := dk_188_10 (dk_at dksX6_init_1 20 rfl rfl)
theorem dX6_init_46 : decode cX6_init 46 = .ok (.putfield 29, 3) := dk_181 0 29 (dk_at dksX6_init_2 0 rfl rfl)
theorem dX6_init_49 : decode cX6_init 49 = .ok (.return_, 1) := dk_177 (dk_at dksX6_init_2 3 rfl rfl)
abbrev cX6_by : ByteArray := prog_9_method_2_code
def yX6_by : MethodName := ⟨RX6, "by", "(LVerbAtDusk$State;)LVerbAtDusk$Giving;"⟩
def dkwX6_by_3 : List UInt8 := [182, 0, 50, 176]
abbrev dktX6_by_3 : List UInt8 := dkwX6_by_3 ++ []
def dkwX6_by_2 : List UInt8 := [43, 28, 29, 182, 0, 44, 80, 132, 3, 1, 167, 255, 214, 132, 2, 1, 167, 255, 195, 42, 43, 182, 0, 47]
abbrev dktX6_by_2 : List UInt8 := dkwX6_by_2 ++ dktX6_by_3
def dkwX6_by_1 : List UInt8 := [162, 0, 37, 42, 180, 0, 17, 28, 50, 29, 43, 28, 29, 182, 0, 39, 84, 42, 180, 0, 22, 28, 50, 29]
abbrev dktX6_by_1 : List UInt8 := dkwX6_by_1 ++ dktX6_by_2
def dkwX6_by_0 : List UInt8 := [3, 61, 28, 42, 180, 0, 3, 182, 0, 32, 162, 0, 56, 3, 62, 29, 42, 180, 0, 3, 182, 0, 36]
abbrev dktX6_by_0 : List UInt8 := dkwX6_by_0 ++ dktX6_by_1
theorem dksX6_by_0 : cX6_by.data.toList.drop 0 = dktX6_by_0 := by decide +kernel
theorem dksX6_by_1 : cX6_by.data.toList.drop 23 = dktX6_by_1 := dk_seg dksX6_by_0 23 rfl rfl
theorem dksX6_by_2 : cX6_by.data.toList.drop 47 = dktX6_by_2 := dk_seg dksX6_by_1 24 rfl rfl
theorem dksX6_by_3 : cX6_by.data.toList.drop 71 = dktX6_by_3 := dk_seg dksX6_by_2 24 rfl rfl
theorem dX6_by_0 : decode cX6_by 0 = .ok (.iconst 0, 1) := dk_3 (dk_at dksX6_by_0 0 rfl rfl)
theorem dX6_by_1 : decode cX6_by 1 = .ok (.istore_n 2, 1) := dk_61 (dk_at dksX6_by_0 1 rfl rfl)
theorem dX6_by_2 : decode cX6_by 2 = .ok (.iload_n 2, 1) := dk_28 (dk_at dksX6_by_0 2 rfl rfl)
theorem dX6_by_3 : decode cX6_by 3 = .ok (.aload_n 0, 1) := dk_42 (dk_at dksX6_by_0 3 rfl rfl)
theorem dX6_by_4 : decode cX6_by 4 = .ok (.getfield 3, 3) := dk_180 0 3 (dk_at dksX6_by_0 4 rfl rfl)
theorem dX6_by_7 : decode cX6_by 7 = .ok (.invokevirtual 32, 3) := dk_182 0 32 (dk_at dksX6_by_0 7 rfl rfl)
theorem dX6_by_10 : decode cX6_by 10 = .ok (.if_icmp .ge 56, 3) := dk_162 0 56 (dk_at dksX6_by_0 10 rfl rfl)
theorem dX6_by_13 : decode cX6_by 13 = .ok (.iconst 0, 1) := dk_3 (dk_at dksX6_by_0 13 rfl rfl)
theorem dX6_by_14 : decode cX6_by 14 = .ok (.istore_n 3, 1) := dk_62 (dk_at dksX6_by_0 14 rfl rfl)
theorem dX6_by_15 : decode cX6_by 15 = .ok (.iload_n 3, 1) := dk_29 (dk_at dksX6_by_0 15 rfl rfl)
theorem dX6_by_16 : decode cX6_by 16 = .ok (.aload_n 0, 1) := dk_42 (dk_at dksX6_by_0 16 rfl rfl)
theorem dX6_by_17 : decode cX6_by 17 = .ok (.getfield 3, 3) := dk_180 0 3 (dk_at dksX6_by_0 17 rfl rfl)
theorem dX6_by_20 : decode cX6_by 20 = .ok (.invokevirtual 36, 3) := dk_182 0 36 (dk_at dksX6_by_0 20 rfl rfl)
theorem dX6_by_23 : decode cX6_by 23 = .ok (.if_icmp .ge 37, 3) := dk_162 0 37 (dk_at dksX6_by_1 0 rfl rfl)
theorem dX6_by_26 : decode cX6_by 26 = .ok (.aload_n 0, 1) := dk_42 (dk_at dksX6_by_1 3 rfl rfl)
theorem dX6_by_27 : decode cX6_by 27 = .ok (.getfield 17, 3) := dk_180 0 17 (dk_at dksX6_by_1 4 rfl rfl)
theorem dX6_by_30 : decode cX6_by 30 = .ok (.iload_n 2, 1) := dk_28 (dk_at dksX6_by_1 7 rfl rfl)
theorem dX6_by_31 : decode cX6_by 31 = .ok (.aaload, 1) := dk_50 (dk_at dksX6_by_1 8 rfl rfl)
theorem dX6_by_32 : decode cX6_by 32 = .ok (.iload_n 3, 1) := dk_29 (dk_at dksX6_by_1 9 rfl rfl)
theorem dX6_by_33 : decode cX6_by 33 = .ok (.aload_n 1, 1) := dk_43 (dk_at dksX6_by_1 10 rfl rfl)
theorem dX6_by_34 : decode cX6_by 34 = .ok (.iload_n 2, 1) := dk_28 (dk_at dksX6_by_1 11 rfl rfl)
theorem dX6_by_35 : decode cX6_by 35 = .ok (.iload_n 3, 1) := dk_29 (dk_at dksX6_by_1 12 rfl rfl)
theorem dX6_by_36 : decode cX6_by 36 = .ok (.invokevirtual 39, 3) := dk_182 0 39 (dk_at dksX6_by_1 13 rfl rfl)
theorem dX6_by_39 : decode cX6_by 39 = .ok (.bastore, 1) := dk_84 (dk_at dksX6_by_1 16 rfl rfl)
theorem dX6_by_40 : decode cX6_by 40 = .ok (.aload_n 0, 1) := dk_42 (dk_at dksX6_by_1 17 rfl rfl)
theorem dX6_by_41 : decode cX6_by 41 = .ok (.getfield 22, 3) := dk_180 0 22 (dk_at dksX6_by_1 18 rfl rfl)
theorem dX6_by_44 : decode cX6_by 44 = .ok (.iload_n 2, 1) := dk_28 (dk_at dksX6_by_1 21 rfl rfl)
theorem dX6_by_45 : decode cX6_by 45 = .ok (.aaload, 1) := dk_50 (dk_at dksX6_by_1 22 rfl rfl)
theorem dX6_by_46 : decode cX6_by 46 = .ok (.iload_n 3, 1) := dk_29 (dk_at dksX6_by_1 23 rfl rfl)
theorem dX6_by_47 : decode cX6_by 47 = .ok (.aload_n 1, 1) := dk_43 (dk_at dksX6_by_2 0 rfl rfl)
theorem dX6_by_48 : decode cX6_by 48 = .ok (.iload_n 2, 1) := dk_28 (dk_at dksX6_by_2 1 rfl rfl)
theorem dX6_by_49 : decode cX6_by 49 = .ok (.iload_n 3, 1) := dk_29 (dk_at dksX6_by_2 2 rfl rfl)
theorem dX6_by_50 : decode cX6_by 50 = .ok (.invokevirtual 44, 3) := dk_182 0 44 (dk_at dksX6_by_2 3 rfl rfl)
theorem dX6_by_53 : decode cX6_by 53 = .ok (.lastore, 1) := dk_80 (dk_at dksX6_by_2 6 rfl rfl)
theorem dX6_by_54 : decode cX6_by 54 = .ok (.iinc 3 1, 3) := dk_132 3 1 (dk_at dksX6_by_2 7 rfl rfl)
theorem dX6_by_57 : decode cX6_by 57 = .ok (.goto (-42), 3) := dk_167 255 214 (dk_at dksX6_by_2 10 rfl rfl)
theorem dX6_by_60 : decode cX6_by 60 = .ok (.iinc 2 1, 3) := dk_132 2 1 (dk_at dksX6_by_2 13 rfl rfl)
theorem dX6_by_63 : decode cX6_by 63 = .ok (.goto (-61), 3) := dk_167 255 195 (dk_at dksX6_by_2 16 rfl rfl)
theorem dX6_by_66 : decode cX6_by 66 = .ok (.aload_n 0, 1) := dk_42 (dk_at dksX6_by_2 19 rfl rfl)
theorem dX6_by_67 : decode cX6_by 67 = .ok (.aload_n 1, 1) := dk_43 (dk_at dksX6_by_2 20 rfl rfl)
theorem dX6_by_68 : decode cX6_by 68 = .ok (.invokevirtual 47, 3) := dk_182 0 47 (dk_at dksX6_by_2 21 rfl rfl)
theorem dX6_by_71 : decode cX6_by 71 = .ok (.invokevirtual 50, 3) := dk_182 0 50 (dk_at dksX6_by_3 0 rfl rfl)
theorem dX6_by_74 : decode cX6_by 74 = .ok (.areturn, 1) := dk_176 (dk_at dksX6_by_3 3 rfl rfl)
abbrev cX6_in : ByteArray := prog_9_method_3_code
def yX6_in : MethodName := ⟨RX6, "in", "(I)LVerbAtDusk$Giving;"⟩
def dkwX6_in_0 : List UInt8 := [42, 27, 181, 0, 54, 42, 3, 181, 0, 57, 42, 3, 42, 180, 0, 54, 9, 182, 0, 61, 42, 176]
abbrev dktX6_in_0 : List UInt8 := dkwX6_in_0 ++ []
theorem dksX6_in_0 : cX6_in.data.toList.drop 0 = dktX6_in_0 := by decide +kernel
theorem dX6_in_0 : decode cX6_in 0 = .ok (.aload_n 0, 1) := dk_42 (dk_at dksX6_in_0 0 rfl rfl)
theorem dX6_in_1 : decode cX6_in 1 = .ok (.iload_n 1, 1) := dk_27 (dk_at dksX6_in_0 1 rfl rfl)
theorem dX6_in_2 : decode cX6_in 2 = .ok (.putfield 54, 3) := dk_181 0 54 (dk_at dksX6_in_0 2 rfl rfl)
theorem dX6_in_5 : decode cX6_in 5 = .ok (.aload_n 0, 1) := dk_42 (dk_at dksX6_in_0 5 rfl rfl)
theorem dX6_in_6 : decode cX6_in 6 = .ok (.iconst 0, 1) := dk_3 (dk_at dksX6_in_0 6 rfl rfl)
theorem dX6_in_7 : decode cX6_in 7 = .ok (.putfield 57, 3) := dk_181 0 57 (dk_at dksX6_in_0 7 rfl rfl)
theorem dX6_in_10 : decode cX6_in 10 = .ok (.aload_n 0, 1) := dk_42 (dk_at dksX6_in_0 10 rfl rfl)
theorem dX6_in_11 : decode cX6_in 11 = .ok (.iconst 0, 1) := dk_3 (dk_at dksX6_in_0 11 rfl rfl)
theorem dX6_in_12 : decode cX6_in 12 = .ok (.aload_n 0, 1) := dk_42 (dk_at dksX6_in_0 12 rfl rfl)
theorem dX6_in_13 : decode cX6_in 13 = .ok (.getfield 54, 3) := dk_180 0 54 (dk_at dksX6_in_0 13 rfl rfl)
theorem dX6_in_16 : decode cX6_in 16 = .ok (.lconst 0, 1) := dk_9 (dk_at dksX6_in_0 16 rfl rfl)
theorem dX6_in_17 : decode cX6_in 17 = .ok (.invokevirtual 61, 3) := dk_182 0 61 (dk_at dksX6_in_0 17 rfl rfl)
theorem dX6_in_20 : decode cX6_in 20 = .ok (.aload_n 0, 1) := dk_42 (dk_at dksX6_in_0 20 rfl rfl)
theorem dX6_in_21 : decode cX6_in 21 = .ok (.areturn, 1) := dk_176 (dk_at dksX6_in_0 21 rfl rfl)
abbrev cX6_gives : ByteArray := prog_9_method_4_code
def yX6_gives : MethodName := ⟨RX6, "gives", "(IIJ)V"⟩
def dkwX6_gives_6 : List UInt8 := [132, 5, 1, 167, 255, 183, 177]
abbrev dktX6_gives_6 : List UInt8 := dkwX6_gives_6 ++ []
def dkwX6_gives_5 : List UInt8 := [4, 96, 28, 4, 21, 5, 120, 2, 130, 126, 33, 42, 180, 0, 22, 27, 50, 21, 5, 47, 97, 182, 0, 61]
abbrev dktX6_gives_5 : List UInt8 := dkwX6_gives_5 ++ dktX6_gives_6
def dkwX6_gives_4 : List UInt8 := [180, 0, 17, 27, 50, 21, 5, 51, 154, 0, 6, 167, 0, 37, 42, 180, 0, 29, 27, 21, 5, 79, 42, 27]
abbrev dktX6_gives_4 : List UInt8 := dkwX6_gives_4 ++ dktX6_gives_5
def dkwX6_gives_3 : List UInt8 := [21, 5, 42, 180, 0, 3, 182, 0, 36, 162, 0, 67, 28, 21, 5, 184, 0, 69, 153, 0, 52, 42]
abbrev dktX6_gives_3 : List UInt8 := dkwX6_gives_3 ++ dktX6_gives_4
def dkwX6_gives_2 : List UInt8 := [180, 0, 25, 21, 5, 42, 180, 0, 29, 21, 5, 46, 79, 132, 5, 1, 167, 255, 233, 177, 3, 54, 5]
abbrev dktX6_gives_2 : List UInt8 := dkwX6_gives_2 ++ dktX6_gives_3
def dkwX6_gives_1 : List UInt8 := [157, 0, 4, 177, 42, 4, 181, 0, 57, 42, 33, 181, 0, 65, 3, 54, 5, 21, 5, 27, 162, 0, 23, 42]
abbrev dktX6_gives_1 : List UInt8 := dkwX6_gives_1 ++ dktX6_gives_2
def dkwX6_gives_0 : List UInt8 := [27, 42, 180, 0, 3, 182, 0, 32, 160, 0, 60, 42, 180, 0, 57, 153, 0, 13, 33, 42, 180, 0, 65, 148]
abbrev dktX6_gives_0 : List UInt8 := dkwX6_gives_0 ++ dktX6_gives_1
theorem dksX6_gives_0 : cX6_gives.data.toList.drop 0 = dktX6_gives_0 := by decide +kernel
theorem dksX6_gives_1 : cX6_gives.data.toList.drop 24 = dktX6_gives_1 := dk_seg dksX6_gives_0 24 rfl rfl
theorem dksX6_gives_2 : cX6_gives.data.toList.drop 48 = dktX6_gives_2 := dk_seg dksX6_gives_1 24 rfl rfl
theorem dksX6_gives_3 : cX6_gives.data.toList.drop 71 = dktX6_gives_3 := dk_seg dksX6_gives_2 23 rfl rfl
theorem dksX6_gives_4 : cX6_gives.data.toList.drop 93 = dktX6_gives_4 := dk_seg dksX6_gives_3 22 rfl rfl
theorem dksX6_gives_5 : cX6_gives.data.toList.drop 117 = dktX6_gives_5 := dk_seg dksX6_gives_4 24 rfl rfl
theorem dksX6_gives_6 : cX6_gives.data.toList.drop 141 = dktX6_gives_6 := dk_seg dksX6_gives_5 24 rfl rfl
theorem dX6_gives_0 : decode cX6_gives 0 = .ok (.iload_n 1, 1) := dk_27 (dk_at dksX6_gives_0 0 rfl rfl)
theorem dX6_gives_1 : decode cX6_gives 1 = .ok (.aload_n 0, 1) := dk_42 (dk_at dksX6_gives_0 1 rfl rfl)
theorem dX6_gives_2 : decode cX6_gives 2 = .ok (.getfield 3, 3) := dk_180 0 3 (dk_at dksX6_gives_0 2 rfl rfl)
theorem dX6_gives_5 : decode cX6_gives 5 = .ok (.invokevirtual 32, 3) := dk_182 0 32 (dk_at dksX6_gives_0 5 rfl rfl)
theorem dX6_gives_8 : decode cX6_gives 8 = .ok (.if_icmp .ne 60, 3) := dk_160 0 60 (dk_at dksX6_gives_0 8 rfl rfl)
theorem dX6_gives_11 : decode cX6_gives 11 = .ok (.aload_n 0, 1) := dk_42 (dk_at dksX6_gives_0 11 rfl rfl)
theorem dX6_gives_12 : decode cX6_gives 12 = .ok (.getfield 57, 3) := dk_180 0 57 (dk_at dksX6_gives_0 12 rfl rfl)
theorem dX6_gives_15 : decode cX6_gives 15 = .ok (.ifCond .eq 13, 3) := dk_153 0 13 (dk_at dksX6_gives_0 15 rfl rfl)
theorem dX6_gives_18 : decode cX6_gives 18 = .ok (.lload_n 3, 1) := dk_33 (dk_at dksX6_gives_0 18 rfl rfl)
theorem dX6_gives_19 : decode cX6_gives 19 = .ok (.aload_n 0, 1) := dk_42 (dk_at dksX6_gives_0 19 rfl rfl)
theorem dX6_gives_20 : decode cX6_gives 20 = .ok (.getfield 65, 3) := dk_180 0 65 (dk_at dksX6_gives_0 20 rfl rfl)
theorem dX6_gives_23 : decode cX6_gives 23 = .ok (.lcmp, 1) := dk_148 (dk_at dksX6_gives_0 23 rfl rfl)
theorem dX6_gives_24 : decode cX6_gives 24 = .ok (.ifCond .gt 4, 3) := dk_157 0 4 (dk_at dksX6_gives_1 0 rfl rfl)
theorem dX6_gives_27 : decode cX6_gives 27 = .ok (.return_, 1) := dk_177 (dk_at dksX6_gives_1 3 rfl rfl)
theorem dX6_gives_28 : decode cX6_gives 28 = .ok (.aload_n 0, 1) := dk_42 (dk_at dksX6_gives_1 4 rfl rfl)
theorem dX6_gives_29 : decode cX6_gives 29 = .ok (.iconst 1, 1) := dk_4 (dk_at dksX6_gives_1 5 rfl rfl)
theorem dX6_gives_30 : decode cX6_gives 30 = .ok (.putfield 57, 3) := dk_181 0 57 (dk_at dksX6_gives_1 6 rfl rfl)
theorem dX6_gives_33 : decode cX6_gives 33 = .ok (.aload_n 0, 1) := dk_42 (dk_at dksX6_gives_1 9 rfl rfl)
theorem dX6_gives_34 : decode cX6_gives 34 = .ok (.lload_n 3, 1) := dk_33 (dk_at dksX6_gives_1 10 rfl rfl)
theorem dX6_gives_35 : decode cX6_gives 35 = .ok (.putfield 65, 3) := dk_181 0 65 (dk_at dksX6_gives_1 11 rfl rfl)
theorem dX6_gives_38 : decode cX6_gives 38 = .ok (.iconst 0, 1) := dk_3 (dk_at dksX6_gives_1 14 rfl rfl)
theorem dX6_gives_39 : decode cX6_gives 39 = .ok (.istore 5, 2) := dk_54 5 (dk_at dksX6_gives_1 15 rfl rfl)
theorem dX6_gives_41 : decode cX6_gives 41 = .ok (.iload 5, 2) := dk_21 5 (dk_at dksX6_gives_1 17 rfl rfl)
theorem dX6_gives_43 : decode cX6_gives 43 = .ok (.iload_n 1, 1) := dk_27 (dk_at dksX6_gives_1 19 rfl rfl)
theorem dX6_gives_44 : decode cX6_gives 44 = .ok (.if_icmp .ge 23, 3) := dk_162 0 23 (dk_at dksX6_gives_1 20 rfl rfl)
theorem dX6_gives_47 : decode cX6_gives 47 = .ok (.aload_n 0, 1) := dk_42 (dk_at dksX6_gives_1 23 rfl rfl)
theorem dX6_gives_48 : decode cX6_gives 48 = .ok (.getfield 25, 3) := dk_180 0 25 (dk_at dksX6_gives_2 0 rfl rfl)
theorem dX6_gives_51 : decode cX6_gives 51 = .ok (.iload 5, 2) := dk_21 5 (dk_at dksX6_gives_2 3 rfl rfl)
theorem dX6_gives_53 : decode cX6_gives 53 = .ok (.aload_n 0, 1) := dk_42 (dk_at dksX6_gives_2 5 rfl rfl)
theorem dX6_gives_54 : decode cX6_gives 54 = .ok (.getfield 29, 3) := dk_180 0 29 (dk_at dksX6_gives_2 6 rfl rfl)
theorem dX6_gives_57 : decode cX6_gives 57 = .ok (.iload 5, 2) := dk_21 5 (dk_at dksX6_gives_2 9 rfl rfl)
theorem dX6_gives_59 : decode cX6_gives 59 = .ok (.iaload, 1) := dk_46 (dk_at dksX6_gives_2 11 rfl rfl)
theorem dX6_gives_60 : decode cX6_gives 60 = .ok (.iastore, 1) := dk_79 (dk_at dksX6_gives_2 12 rfl rfl)
theorem dX6_gives_61 : decode cX6_gives 61 = .ok (.iinc 5 1, 3) := dk_132 5 1 (dk_at dksX6_gives_2 13 rfl rfl)
theorem dX6_gives_64 : decode cX6_gives 64 = .ok (.goto (-23), 3) := dk_167 255 233 (dk_at dksX6_gives_2 16 rfl rfl)
theorem dX6_gives_67 : decode cX6_gives 67 = .ok (.return_, 1) := dk_177 (dk_at dksX6_gives_2 19 rfl rfl)
theorem dX6_gives_68 : decode cX6_gives 68 = .ok (.iconst 0, 1) := dk_3 (dk_at dksX6_gives_2 20 rfl rfl)
theorem dX6_gives_69 : decode cX6_gives 69 = .ok (.istore 5, 2) := dk_54 5 (dk_at dksX6_gives_2 21 rfl rfl)
theorem dX6_gives_71 : decode cX6_gives 71 = .ok (.iload 5, 2) := dk_21 5 (dk_at dksX6_gives_3 0 rfl rfl)
theorem dX6_gives_73 : decode cX6_gives 73 = .ok (.aload_n 0, 1) := dk_42 (dk_at dksX6_gives_3 2 rfl rfl)
theorem dX6_gives_74 : decode cX6_gives 74 = .ok (.getfield 3, 3) := dk_180 0 3 (dk_at dksX6_gives_3 3 rfl rfl)
theorem dX6_gives_77 : decode cX6_gives 77 = .ok (.invokevirtual 36, 3) := dk_182 0 36 (dk_at dksX6_gives_3 6 rfl rfl)
theorem dX6_gives_80 : decode cX6_gives 80 = .ok (.if_icmp .ge 67, 3) := dk_162 0 67 (dk_at dksX6_gives_3 9 rfl rfl)
theorem dX6_gives_83 : decode cX6_gives 83 = .ok (.iload_n 2, 1) := dk_28 (dk_at dksX6_gives_3 12 rfl rfl)
theorem dX6_gives_84 : decode cX6_gives 84 = .ok (.iload 5, 2) := dk_21 5 (dk_at dksX6_gives_3 13 rfl rfl)
theorem dX6_gives_86 : decode cX6_gives 86 = .ok (.invokestatic 69, 3) := dk_184 0 69 (dk_at dksX6_gives_3 15 rfl rfl)
theorem dX6_gives_89 : decode cX6_gives 89 = .ok (.ifCond .eq 52, 3) := dk_153 0 52 (dk_at dksX6_gives_3 18 rfl rfl)
theorem dX6_gives_92 : decode cX6_gives 92 = .ok (.aload_n 0, 1) := dk_42 (dk_at dksX6_gives_3 21 rfl rfl)
theorem dX6_gives_93 : decode cX6_gives 93 = .ok (.getfield 17, 3) := dk_180 0 17 (dk_at dksX6_gives_4 0 rfl rfl)
theorem dX6_gives_96 : decode cX6_gives 96 = .ok (.iload_n 1, 1) := dk_27 (dk_at dksX6_gives_4 3 rfl rfl)
theorem dX6_gives_97 : decode cX6_gives 97 = .ok (.aaload, 1) := dk_50 (dk_at dksX6_gives_4 4 rfl rfl)
theorem dX6_gives_98 : decode cX6_gives 98 = .ok (.iload 5, 2) := dk_21 5 (dk_at dksX6_gives_4 5 rfl rfl)
theorem dX6_gives_100 : decode cX6_gives 100 = .ok (.baload, 1) := dk_51 (dk_at dksX6_gives_4 7 rfl rfl)
theorem dX6_gives_101 : decode cX6_gives 101 = .ok (.ifCond .ne 6, 3) := dk_154 0 6 (dk_at dksX6_gives_4 8 rfl rfl)
theorem dX6_gives_104 : decode cX6_gives 104 = .ok (.goto 37, 3) := dk_167 0 37 (dk_at dksX6_gives_4 11 rfl rfl)
theorem dX6_gives_107 : decode cX6_gives 107 = .ok (.aload_n 0, 1) := dk_42 (dk_at dksX6_gives_4 14 rfl rfl)
theorem dX6_gives_108 : decode cX6_gives 108 = .ok (.getfield 29, 3) := dk_180 0 29 (dk_at dksX6_gives_4 15 rfl rfl)
theorem dX6_gives_111 : decode cX6_gives 111 = .ok (.iload_n 1, 1) := dk_27 (dk_at dksX6_gives_4 18 rfl rfl)
theorem dX6_gives_112 : decode cX6_gives 112 = .ok (.iload 5, 2) := dk_21 5 (dk_at dksX6_gives_4 19 rfl rfl)
theorem dX6_gives_114 : decode cX6_gives 114 = .ok (.iastore, 1) := dk_79 (dk_at dksX6_gives_4 21 rfl rfl)
theorem dX6_gives_115 : decode cX6_gives 115 = .ok (.aload_n 0, 1) := dk_42 (dk_at dksX6_gives_4 22 rfl rfl)
theorem dX6_gives_116 : decode cX6_gives 116 = .ok (.iload_n 1, 1) := dk_27 (dk_at dksX6_gives_4 23 rfl rfl)
theorem dX6_gives_117 : decode cX6_gives 117 = .ok (.iconst 1, 1) := dk_4 (dk_at dksX6_gives_5 0 rfl rfl)
theorem dX6_gives_118 : decode cX6_gives 118 = .ok (.iadd, 1) := dk_96 (dk_at dksX6_gives_5 1 rfl rfl)
theorem dX6_gives_119 : decode cX6_gives 119 = .ok (.iload_n 2, 1) := dk_28 (dk_at dksX6_gives_5 2 rfl rfl)
theorem dX6_gives_120 : decode cX6_gives 120 = .ok (.iconst 1, 1) := dk_4 (dk_at dksX6_gives_5 3 rfl rfl)
theorem dX6_gives_121 : decode cX6_gives 121 = .ok (.iload 5, 2) := dk_21 5 (dk_at dksX6_gives_5 4 rfl rfl)
theorem dX6_gives_123 : decode cX6_gives 123 = .ok (.ishl, 1) := dk_120 (dk_at dksX6_gives_5 6 rfl rfl)
theorem dX6_gives_124 : decode cX6_gives 124 = .ok (.iconst (-1), 1) := dk_2 (dk_at dksX6_gives_5 7 rfl rfl)
theorem dX6_gives_125 : decode cX6_gives 125 = .ok (.ixor, 1) := dk_130 (dk_at dksX6_gives_5 8 rfl rfl)
theorem dX6_gives_126 : decode cX6_gives 126 = .ok (.iand, 1) := dk_126 (dk_at dksX6_gives_5 9 rfl rfl)
theorem dX6_gives_127 : decode cX6_gives 127 = .ok (.lload_n 3, 1) := dk_33 (dk_at dksX6_gives_5 10 rfl rfl)
theorem dX6_gives_128 : decode cX6_gives 128 = .ok (.aload_n 0, 1) := dk_42 (dk_at dksX6_gives_5 11 rfl rfl)
theorem dX6_gives_129 : decode cX6_gives 129 = .ok (.getfield 22, 3) := dk_180 0 22 (dk_at dksX6_gives_5 12 rfl rfl)
theorem dX6_gives_132 : decode cX6_gives 132 = .ok (.iload_n 1, 1) := dk_27 (dk_at dksX6_gives_5 15 rfl rfl)
theorem dX6_gives_133 : decode cX6_gives 133 = .ok (.aaload, 1) := dk_50 (dk_at dksX6_gives_5 16 rfl rfl)
theorem dX6_gives_134 : decode cX6_gives 134 = .ok (.iload 5, 2) := dk_21 5 (dk_at dksX6_gives_5 17 rfl rfl)
theorem dX6_gives_136 : decode cX6_gives 136 = .ok (.laload, 1) := dk_47 (dk_at dksX6_gives_5 19 rfl rfl)
theorem dX6_gives_137 : decode cX6_gives 137 = .ok (.ladd, 1) := dk_97 (dk_at dksX6_gives_5 20 rfl rfl)
theorem dX6_gives_138 : decode cX6_gives 138 = .ok (.invokevirtual 61, 3) := dk_182 0 61 (dk_at dksX6_gives_5 21 rfl rfl)
theorem dX6_gives_141 : decode cX6_gives 141 = .ok (.iinc 5 1, 3) := dk_132 5 1 (dk_at dksX6_gives_6 0 rfl rfl)
theorem dX6_gives_144 : decode cX6_gives 144 = .ok (.goto (-73), 3) := dk_167 255 183 (dk_at dksX6_gives_6 3 rfl rfl)
theorem dX6_gives_147 : decode cX6_gives 147 = .ok (.return_, 1) := dk_177 (dk_at dksX6_gives_6 6 rfl rfl)
abbrev cX6_spilt : ByteArray := prog_9_method_6_code
def yX6_spilt : MethodName := ⟨RX6, "spilt", "()LVerbAtDusk$Giving;"⟩
def dkwX6_spilt_0 : List UInt8 := [42, 18, 79, 181, 0, 72, 42, 3, 42, 180, 0, 54, 3, 182, 0, 75, 42, 176]
abbrev dktX6_spilt_0 : List UInt8 := dkwX6_spilt_0 ++ []
theorem dksX6_spilt_0 : cX6_spilt.data.toList.drop 0 = dktX6_spilt_0 := by decide +kernel
theorem dX6_spilt_0 : decode cX6_spilt 0 = .ok (.aload_n 0, 1) := dk_42 (dk_at dksX6_spilt_0 0 rfl rfl)
theorem dX6_spilt_1 : decode cX6_spilt 1 = .ok (.ldc 79, 2) := dk_18 79 (dk_at dksX6_spilt_0 1 rfl rfl)
theorem dX6_spilt_3 : decode cX6_spilt 3 = .ok (.putfield 72, 3) := dk_181 0 72 (dk_at dksX6_spilt_0 3 rfl rfl)
theorem dX6_spilt_6 : decode cX6_spilt 6 = .ok (.aload_n 0, 1) := dk_42 (dk_at dksX6_spilt_0 6 rfl rfl)
theorem dX6_spilt_7 : decode cX6_spilt 7 = .ok (.iconst 0, 1) := dk_3 (dk_at dksX6_spilt_0 7 rfl rfl)
theorem dX6_spilt_8 : decode cX6_spilt 8 = .ok (.aload_n 0, 1) := dk_42 (dk_at dksX6_spilt_0 8 rfl rfl)
theorem dX6_spilt_9 : decode cX6_spilt 9 = .ok (.getfield 54, 3) := dk_180 0 54 (dk_at dksX6_spilt_0 9 rfl rfl)
theorem dX6_spilt_12 : decode cX6_spilt 12 = .ok (.iconst 0, 1) := dk_3 (dk_at dksX6_spilt_0 12 rfl rfl)
theorem dX6_spilt_13 : decode cX6_spilt 13 = .ok (.invokevirtual 75, 3) := dk_182 0 75 (dk_at dksX6_spilt_0 13 rfl rfl)
theorem dX6_spilt_16 : decode cX6_spilt 16 = .ok (.aload_n 0, 1) := dk_42 (dk_at dksX6_spilt_0 16 rfl rfl)
theorem dX6_spilt_17 : decode cX6_spilt 17 = .ok (.areturn, 1) := dk_176 (dk_at dksX6_spilt_0 17 rfl rfl)
abbrev cX6_spills : ByteArray := prog_9_method_5_code
def yX6_spills : MethodName := ⟨RX6, "spills", "(III)V"⟩
def dkwX6_spills_5 : List UInt8 := [167, 0, 4, 4, 96, 182, 0, 75, 132, 4, 1, 167, 255, 187, 177]
abbrev dktX6_spills_5 : List UInt8 := dkwX6_spills_5 ++ []
def dkwX6_spills_4 : List UInt8 := [28, 4, 21, 4, 120, 2, 130, 126, 29, 42, 180, 0, 17, 27, 50, 21, 4, 51, 153, 0, 7, 3]
abbrev dktX6_spills_4 : List UInt8 := dkwX6_spills_4 ++ dktX6_spills_5
def dkwX6_spills_3 : List UInt8 := [28, 21, 4, 184, 0, 69, 154, 0, 6, 167, 0, 45, 42, 180, 0, 29, 27, 21, 4, 79, 42, 27, 4, 96]
abbrev dktX6_spills_3 : List UInt8 := dkwX6_spills_3 ++ dktX6_spills_4
def dkwX6_spills_2 : List UInt8 := [46, 79, 132, 4, 1, 167, 255, 233, 177, 3, 54, 4, 21, 4, 42, 180, 0, 3, 182, 0, 36, 162, 0, 63]
abbrev dktX6_spills_2 : List UInt8 := dkwX6_spills_2 ++ dktX6_spills_3
def dkwX6_spills_1 : List UInt8 := [181, 0, 72, 3, 54, 4, 21, 4, 27, 162, 0, 23, 42, 180, 0, 25, 21, 4, 42, 180, 0, 29, 21, 4]
abbrev dktX6_spills_1 : List UInt8 := dkwX6_spills_1 ++ dktX6_spills_2
def dkwX6_spills_0 : List UInt8 := [29, 42, 180, 0, 72, 161, 0, 4, 177, 27, 42, 180, 0, 3, 182, 0, 32, 160, 0, 38, 42, 29]
abbrev dktX6_spills_0 : List UInt8 := dkwX6_spills_0 ++ dktX6_spills_1
theorem dksX6_spills_0 : cX6_spills.data.toList.drop 0 = dktX6_spills_0 := by decide +kernel
theorem dksX6_spills_1 : cX6_spills.data.toList.drop 22 = dktX6_spills_1 := dk_seg dksX6_spills_0 22 rfl rfl
theorem dksX6_spills_2 : cX6_spills.data.toList.drop 46 = dktX6_spills_2 := dk_seg dksX6_spills_1 24 rfl rfl
theorem dksX6_spills_3 : cX6_spills.data.toList.drop 70 = dktX6_spills_3 := dk_seg dksX6_spills_2 24 rfl rfl
theorem dksX6_spills_4 : cX6_spills.data.toList.drop 94 = dktX6_spills_4 := dk_seg dksX6_spills_3 24 rfl rfl
theorem dksX6_spills_5 : cX6_spills.data.toList.drop 116 = dktX6_spills_5 := dk_seg dksX6_spills_4 22 rfl rfl
theorem dX6_spills_0 : decode cX6_spills 0 = .ok (.iload_n 3, 1) := dk_29 (dk_at dksX6_spills_0 0 rfl rfl)
theorem dX6_spills_1 : decode cX6_spills 1 = .ok (.aload_n 0, 1) := dk_42 (dk_at dksX6_spills_0 1 rfl rfl)
theorem dX6_spills_2 : decode cX6_spills 2 = .ok (.getfield 72, 3) := dk_180 0 72 (dk_at dksX6_spills_0 2 rfl rfl)
theorem dX6_spills_5 : decode cX6_spills 5 = .ok (.if_icmp .lt 4, 3) := dk_161 0 4 (dk_at dksX6_spills_0 5 rfl rfl)
theorem dX6_spills_8 : decode cX6_spills 8 = .ok (.return_, 1) := dk_177 (dk_at dksX6_spills_0 8 rfl rfl)
theorem dX6_spills_9 : decode cX6_spills 9 = .ok (.iload_n 1, 1) := dk_27 (dk_at dksX6_spills_0 9 rfl rfl)
theorem dX6_spills_10 : decode cX6_spills 10 = .ok (.aload_n 0, 1) := dk_42 (dk_at dksX6_spills_0 10 rfl rfl)
theorem dX6_spills_11 : decode cX6_spills 11 = .ok (.getfield 3, 3) := dk_180 0 3 (dk_at dksX6_spills_0 11 rfl rfl)
theorem dX6_spills_14 : decode cX6_spills 14 = .ok (.invokevirtual 32, 3) := dk_182 0 32 (dk_at dksX6_spills_0 14 rfl rfl)
theorem dX6_spills_17 : decode cX6_spills 17 = .ok (.if_icmp .ne 38, 3) := dk_160 0 38 (dk_at dksX6_spills_0 17 rfl rfl)
theorem dX6_spills_20 : decode cX6_spills 20 = .ok (.aload_n 0, 1) := dk_42 (dk_at dksX6_spills_0 20 rfl rfl)
theorem dX6_spills_21 : decode cX6_spills 21 = .ok (.iload_n 3, 1) := dk_29 (dk_at dksX6_spills_0 21 rfl rfl)
theorem dX6_spills_22 : decode cX6_spills 22 = .ok (.putfield 72, 3) := dk_181 0 72 (dk_at dksX6_spills_1 0 rfl rfl)
theorem dX6_spills_25 : decode cX6_spills 25 = .ok (.iconst 0, 1) := dk_3 (dk_at dksX6_spills_1 3 rfl rfl)
theorem dX6_spills_26 : decode cX6_spills 26 = .ok (.istore 4, 2) := dk_54 4 (dk_at dksX6_spills_1 4 rfl rfl)
theorem dX6_spills_28 : decode cX6_spills 28 = .ok (.iload 4, 2) := dk_21 4 (dk_at dksX6_spills_1 6 rfl rfl)
theorem dX6_spills_30 : decode cX6_spills 30 = .ok (.iload_n 1, 1) := dk_27 (dk_at dksX6_spills_1 8 rfl rfl)
theorem dX6_spills_31 : decode cX6_spills 31 = .ok (.if_icmp .ge 23, 3) := dk_162 0 23 (dk_at dksX6_spills_1 9 rfl rfl)
theorem dX6_spills_34 : decode cX6_spills 34 = .ok (.aload_n 0, 1) := dk_42 (dk_at dksX6_spills_1 12 rfl rfl)
theorem dX6_spills_35 : decode cX6_spills 35 = .ok (.getfield 25, 3) := dk_180 0 25 (dk_at dksX6_spills_1 13 rfl rfl)
theorem dX6_spills_38 : decode cX6_spills 38 = .ok (.iload 4, 2) := dk_21 4 (dk_at dksX6_spills_1 16 rfl rfl)
theorem dX6_spills_40 : decode cX6_spills 40 = .ok (.aload_n 0, 1) := dk_42 (dk_at dksX6_spills_1 18 rfl rfl)
theorem dX6_spills_41 : decode cX6_spills 41 = .ok (.getfield 29, 3) := dk_180 0 29 (dk_at dksX6_spills_1 19 rfl rfl)
theorem dX6_spills_44 : decode cX6_spills 44 = .ok (.iload 4, 2) := dk_21 4 (dk_at dksX6_spills_1 22 rfl rfl)
theorem dX6_spills_46 : decode cX6_spills 46 = .ok (.iaload, 1) := dk_46 (dk_at dksX6_spills_2 0 rfl rfl)
theorem dX6_spills_47 : decode cX6_spills 47 = .ok (.iastore, 1) := dk_79 (dk_at dksX6_spills_2 1 rfl rfl)
theorem dX6_spills_48 : decode cX6_spills 48 = .ok (.iinc 4 1, 3) := dk_132 4 1 (dk_at dksX6_spills_2 2 rfl rfl)
theorem dX6_spills_51 : decode cX6_spills 51 = .ok (.goto (-23), 3) := dk_167 255 233 (dk_at dksX6_spills_2 5 rfl rfl)
theorem dX6_spills_54 : decode cX6_spills 54 = .ok (.return_, 1) := dk_177 (dk_at dksX6_spills_2 8 rfl rfl)
theorem dX6_spills_55 : decode cX6_spills 55 = .ok (.iconst 0, 1) := dk_3 (dk_at dksX6_spills_2 9 rfl rfl)
theorem dX6_spills_56 : decode cX6_spills 56 = .ok (.istore 4, 2) := dk_54 4 (dk_at dksX6_spills_2 10 rfl rfl)
theorem dX6_spills_58 : decode cX6_spills 58 = .ok (.iload 4, 2) := dk_21 4 (dk_at dksX6_spills_2 12 rfl rfl)
theorem dX6_spills_60 : decode cX6_spills 60 = .ok (.aload_n 0, 1) := dk_42 (dk_at dksX6_spills_2 14 rfl rfl)
theorem dX6_spills_61 : decode cX6_spills 61 = .ok (.getfield 3, 3) := dk_180 0 3 (dk_at dksX6_spills_2 15 rfl rfl)
theorem dX6_spills_64 : decode cX6_spills 64 = .ok (.invokevirtual 36, 3) := dk_182 0 36 (dk_at dksX6_spills_2 18 rfl rfl)
theorem dX6_spills_67 : decode cX6_spills 67 = .ok (.if_icmp .ge 63, 3) := dk_162 0 63 (dk_at dksX6_spills_2 21 rfl rfl)
theorem dX6_spills_70 : decode cX6_spills 70 = .ok (.iload_n 2, 1) := dk_28 (dk_at dksX6_spills_3 0 rfl rfl)
theorem dX6_spills_71 : decode cX6_spills 71 = .ok (.iload 4, 2) := dk_21 4 (dk_at dksX6_spills_3 1 rfl rfl)
theorem dX6_spills_73 : decode cX6_spills 73 = .ok (.invokestatic 69, 3) := dk_184 0 69 (dk_at dksX6_spills_3 3 rfl rfl)
theorem dX6_spills_76 : decode cX6_spills 76 = .ok (.ifCond .ne 6, 3) := dk_154 0 6 (dk_at dksX6_spills_3 6 rfl rfl)
theorem dX6_spills_79 : decode cX6_spills 79 = .ok (.goto 45, 3) := dk_167 0 45 (dk_at dksX6_spills_3 9 rfl rfl)
theorem dX6_spills_82 : decode cX6_spills 82 = .ok (.aload_n 0, 1) := dk_42 (dk_at dksX6_spills_3 12 rfl rfl)
theorem dX6_spills_83 : decode cX6_spills 83 = .ok (.getfield 29, 3) := dk_180 0 29 (dk_at dksX6_spills_3 13 rfl rfl)
theorem dX6_spills_86 : decode cX6_spills 86 = .ok (.iload_n 1, 1) := dk_27 (dk_at dksX6_spills_3 16 rfl rfl)
theorem dX6_spills_87 : decode cX6_spills 87 = .ok (.iload 4, 2) := dk_21 4 (dk_at dksX6_spills_3 17 rfl rfl)
theorem dX6_spills_89 : decode cX6_spills 89 = .ok (.iastore, 1) := dk_79 (dk_at dksX6_spills_3 19 rfl rfl)
theorem dX6_spills_90 : decode cX6_spills 90 = .ok (.aload_n 0, 1) := dk_42 (dk_at dksX6_spills_3 20 rfl rfl)
theorem dX6_spills_91 : decode cX6_spills 91 = .ok (.iload_n 1, 1) := dk_27 (dk_at dksX6_spills_3 21 rfl rfl)
theorem dX6_spills_92 : decode cX6_spills 92 = .ok (.iconst 1, 1) := dk_4 (dk_at dksX6_spills_3 22 rfl rfl)
theorem dX6_spills_93 : decode cX6_spills 93 = .ok (.iadd, 1) := dk_96 (dk_at dksX6_spills_3 23 rfl rfl)
theorem dX6_spills_94 : decode cX6_spills 94 = .ok (.iload_n 2, 1) := dk_28 (dk_at dksX6_spills_4 0 rfl rfl)
theorem dX6_spills_95 : decode cX6_spills 95 = .ok (.iconst 1, 1) := dk_4 (dk_at dksX6_spills_4 1 rfl rfl)
theorem dX6_spills_96 : decode cX6_spills 96 = .ok (.iload 4, 2) := dk_21 4 (dk_at dksX6_spills_4 2 rfl rfl)
theorem dX6_spills_98 : decode cX6_spills 98 = .ok (.ishl, 1) := dk_120 (dk_at dksX6_spills_4 4 rfl rfl)
theorem dX6_spills_99 : decode cX6_spills 99 = .ok (.iconst (-1), 1) := dk_2 (dk_at dksX6_spills_4 5 rfl rfl)
theorem dX6_spills_100 : decode cX6_spills 100 = .ok (.ixor, 1) := dk_130 (dk_at dksX6_spills_4 6 rfl rfl)
theorem dX6_spills_101 : decode cX6_spills 101 = .ok (.iand, 1) := dk_126 (dk_at dksX6_spills_4 7 rfl rfl)
theorem dX6_spills_102 : decode cX6_spills 102 = .ok (.iload_n 3, 1) := dk_29 (dk_at dksX6_spills_4 8 rfl rfl)
theorem dX6_spills_103 : decode cX6_spills 103 = .ok (.aload_n 0, 1) := dk_42 (dk_at dksX6_spills_4 9 rfl rfl)
theorem dX6_spills_104 : decode cX6_spills 104 = .ok (.getfield 17, 3) := dk_180 0 17 (dk_at dksX6_spills_4 10 rfl rfl)
theorem dX6_spills_107 : decode cX6_spills 107 = .ok (.iload_n 1, 1) := dk_27 (dk_at dksX6_spills_4 13 rfl rfl)
theorem dX6_spills_108 : decode cX6_spills 108 = .ok (.aaload, 1) := dk_50 (dk_at dksX6_spills_4 14 rfl rfl)
theorem dX6_spills_109 : decode cX6_spills 109 = .ok (.iload 4, 2) := dk_21 4 (dk_at dksX6_spills_4 15 rfl rfl)
theorem dX6_spills_111 : decode cX6_spills 111 = .ok (.baload, 1) := dk_51 (dk_at dksX6_spills_4 17 rfl rfl)
theorem dX6_spills_112 : decode cX6_spills 112 = .ok (.ifCond .eq 7, 3) := dk_153 0 7 (dk_at dksX6_spills_4 18 rfl rfl)
theorem dX6_spills_115 : decode cX6_spills 115 = .ok (.iconst 0, 1) := dk_3 (dk_at dksX6_spills_4 21 rfl rfl)
theorem dX6_spills_116 : decode cX6_spills 116 = .ok (.goto 4, 3) := dk_167 0 4 (dk_at dksX6_spills_5 0 rfl rfl)
theorem dX6_spills_119 : decode cX6_spills 119 = .ok (.iconst 1, 1) := dk_4 (dk_at dksX6_spills_5 3 rfl rfl)
theorem dX6_spills_120 : decode cX6_spills 120 = .ok (.iadd, 1) := dk_96 (dk_at dksX6_spills_5 4 rfl rfl)
theorem dX6_spills_121 : decode cX6_spills 121 = .ok (.invokevirtual 75, 3) := dk_182 0 75 (dk_at dksX6_spills_5 5 rfl rfl)
theorem dX6_spills_124 : decode cX6_spills 124 = .ok (.iinc 4 1, 3) := dk_132 4 1 (dk_at dksX6_spills_5 8 rfl rfl)
theorem dX6_spills_127 : decode cX6_spills 127 = .ok (.goto (-69), 3) := dk_167 255 187 (dk_at dksX6_spills_5 11 rfl rfl)
theorem dX6_spills_130 : decode cX6_spills 130 = .ok (.return_, 1) := dk_177 (dk_at dksX6_spills_5 14 rfl rfl)
abbrev cX6_chooses : ByteArray := prog_9_method_7_code
def yX6_chooses : MethodName := ⟨RX6, "chooses", "(IIII)J"⟩
def dkwX6_chooses_5 : List UInt8 := [167, 255, 163, 22, 6, 173]
abbrev dktX6_chooses_5 : List UInt8 := dkwX6_chooses_5 ++ []
def dkwX6_chooses_4 : List UInt8 := [54, 5, 22, 9, 55, 6, 21, 4, 154, 0, 11, 42, 180, 0, 29, 3, 21, 8, 79, 132, 8, 1]
abbrev dktX6_chooses_4 : List UInt8 := dkwX6_chooses_4 ++ dktX6_chooses_5
def dkwX6_chooses_3 : List UInt8 := [182, 0, 80, 101, 55, 9, 21, 5, 153, 0, 14, 22, 9, 22, 6, 148, 157, 0, 6, 167, 0, 23, 4]
abbrev dktX6_chooses_3 : List UInt8 := dkwX6_chooses_3 ++ dktX6_chooses_4
def dkwX6_chooses_2 : List UInt8 := [180, 0, 22, 27, 50, 21, 8, 47, 42, 28, 27, 29, 4, 21, 8, 120, 2, 130, 126, 21, 4, 4, 96]
abbrev dktX6_chooses_2 : List UInt8 := dkwX6_chooses_2 ++ dktX6_chooses_3
def dkwX6_chooses_1 : List UInt8 := [42, 180, 0, 3, 182, 0, 36, 162, 0, 87, 29, 21, 8, 184, 0, 69, 154, 0, 6, 167, 0, 69, 42]
abbrev dktX6_chooses_1 : List UInt8 := dkwX6_chooses_1 ++ dktX6_chooses_2
def dkwX6_chooses_0 : List UInt8 := [29, 153, 0, 10, 21, 4, 16, 6, 160, 0, 5, 9, 173, 3, 54, 5, 9, 55, 6, 3, 54, 8, 21, 8]
abbrev dktX6_chooses_0 : List UInt8 := dkwX6_chooses_0 ++ dktX6_chooses_1
theorem dksX6_chooses_0 : cX6_chooses.data.toList.drop 0 = dktX6_chooses_0 := by decide +kernel
theorem dksX6_chooses_1 : cX6_chooses.data.toList.drop 24 = dktX6_chooses_1 := dk_seg dksX6_chooses_0 24 rfl rfl
theorem dksX6_chooses_2 : cX6_chooses.data.toList.drop 47 = dktX6_chooses_2 := dk_seg dksX6_chooses_1 23 rfl rfl
theorem dksX6_chooses_3 : cX6_chooses.data.toList.drop 70 = dktX6_chooses_3 := dk_seg dksX6_chooses_2 23 rfl rfl
theorem dksX6_chooses_4 : cX6_chooses.data.toList.drop 93 = dktX6_chooses_4 := dk_seg dksX6_chooses_3 23 rfl rfl
theorem dksX6_chooses_5 : cX6_chooses.data.toList.drop 115 = dktX6_chooses_5 := dk_seg dksX6_chooses_4 22 rfl rfl
theorem dX6_chooses_0 : decode cX6_chooses 0 = .ok (.iload_n 3, 1) := dk_29 (dk_at dksX6_chooses_0 0 rfl rfl)
theorem dX6_chooses_1 : decode cX6_chooses 1 = .ok (.ifCond .eq 10, 3) := dk_153 0 10 (dk_at dksX6_chooses_0 1 rfl rfl)
theorem dX6_chooses_4 : decode cX6_chooses 4 = .ok (.iload 4, 2) := dk_21 4 (dk_at dksX6_chooses_0 4 rfl rfl)
theorem dX6_chooses_6 : decode cX6_chooses 6 = .ok (.bipush 6, 2) := dk_16 6 (dk_at dksX6_chooses_0 6 rfl rfl)
theorem dX6_chooses_8 : decode cX6_chooses 8 = .ok (.if_icmp .ne 5, 3) := dk_160 0 5 (dk_at dksX6_chooses_0 8 rfl rfl)
theorem dX6_chooses_11 : decode cX6_chooses 11 = .ok (.lconst 0, 1) := dk_9 (dk_at dksX6_chooses_0 11 rfl rfl)
theorem dX6_chooses_12 : decode cX6_chooses 12 = .ok (.lreturn, 1) := dk_173 (dk_at dksX6_chooses_0 12 rfl rfl)
theorem dX6_chooses_13 : decode cX6_chooses 13 = .ok (.iconst 0, 1) := dk_3 (dk_at dksX6_chooses_0 13 rfl rfl)
theorem dX6_chooses_14 : decode cX6_chooses 14 = .ok (.istore 5, 2) := dk_54 5 (dk_at dksX6_chooses_0 14 rfl rfl)
theorem dX6_chooses_16 : decode cX6_chooses 16 = .ok (.lconst 0, 1) := dk_9 (dk_at dksX6_chooses_0 16 rfl rfl)
theorem dX6_chooses_17 : decode cX6_chooses 17 = .ok (.lstore 6, 2) := dk_55 6 (dk_at dksX6_chooses_0 17 rfl rfl)
theorem dX6_chooses_19 : decode cX6_chooses 19 = .ok (.iconst 0, 1) := dk_3 (dk_at dksX6_chooses_0 19 rfl rfl)
theorem dX6_chooses_20 : decode cX6_chooses 20 = .ok (.istore 8, 2) := dk_54 8 (dk_at dksX6_chooses_0 20 rfl rfl)
theorem dX6_chooses_22 : decode cX6_chooses 22 = .ok (.iload 8, 2) := dk_21 8 (dk_at dksX6_chooses_0 22 rfl rfl)
theorem dX6_chooses_24 : decode cX6_chooses 24 = .ok (.aload_n 0, 1) := dk_42 (dk_at dksX6_chooses_1 0 rfl rfl)
theorem dX6_chooses_25 : decode cX6_chooses 25 = .ok (.getfield 3, 3) := dk_180 0 3 (dk_at dksX6_chooses_1 1 rfl rfl)
theorem dX6_chooses_28 : decode cX6_chooses 28 = .ok (.invokevirtual 36, 3) := dk_182 0 36 (dk_at dksX6_chooses_1 4 rfl rfl)
theorem dX6_chooses_31 : decode cX6_chooses 31 = .ok (.if_icmp .ge 87, 3) := dk_162 0 87 (dk_at dksX6_chooses_1 7 rfl rfl)
theorem dX6_chooses_34 : decode cX6_chooses 34 = .ok (.iload_n 3, 1) := dk_29 (dk_at dksX6_chooses_1 10 rfl rfl)
theorem dX6_chooses_35 : decode cX6_chooses 35 = .ok (.iload 8, 2) := dk_21 8 (dk_at dksX6_chooses_1 11 rfl rfl)
theorem dX6_chooses_37 : decode cX6_chooses 37 = .ok (.invokestatic 69, 3) := dk_184 0 69 (dk_at dksX6_chooses_1 13 rfl rfl)
theorem dX6_chooses_40 : decode cX6_chooses 40 = .ok (.ifCond .ne 6, 3) := dk_154 0 6 (dk_at dksX6_chooses_1 16 rfl rfl)
theorem dX6_chooses_43 : decode cX6_chooses 43 = .ok (.goto 69, 3) := dk_167 0 69 (dk_at dksX6_chooses_1 19 rfl rfl)
theorem dX6_chooses_46 : decode cX6_chooses 46 = .ok (.aload_n 0, 1) := dk_42 (dk_at dksX6_chooses_1 22 rfl rfl)
theorem dX6_chooses_47 : decode cX6_chooses 47 = .ok (.getfield 22, 3) := dk_180 0 22 (dk_at dksX6_chooses_2 0 rfl rfl)
theorem dX6_chooses_50 : decode cX6_chooses 50 = .ok (.iload_n 1, 1) := dk_27 (dk_at dksX6_chooses_2 3 rfl rfl)
theorem dX6_chooses_51 : decode cX6_chooses 51 = .ok (.aaload, 1) := dk_50 (dk_at dksX6_chooses_2 4 rfl rfl)
theorem dX6_chooses_52 : decode cX6_chooses 52 = .ok (.iload 8, 2) := dk_21 8 (dk_at dksX6_chooses_2 5 rfl rfl)
theorem dX6_chooses_54 : decode cX6_chooses 54 = .ok (.laload, 1) := dk_47 (dk_at dksX6_chooses_2 7 rfl rfl)
theorem dX6_chooses_55 : decode cX6_chooses 55 = .ok (.aload_n 0, 1) := dk_42 (dk_at dksX6_chooses_2 8 rfl rfl)
theorem dX6_chooses_56 : decode cX6_chooses 56 = .ok (.iload_n 2, 1) := dk_28 (dk_at dksX6_chooses_2 9 rfl rfl)
theorem dX6_chooses_57 : decode cX6_chooses 57 = .ok (.iload_n 1, 1) := dk_27 (dk_at dksX6_chooses_2 10 rfl rfl)
theorem dX6_chooses_58 : decode cX6_chooses 58 = .ok (.iload_n 3, 1) := dk_29 (dk_at dksX6_chooses_2 11 rfl rfl)
theorem dX6_chooses_59 : decode cX6_chooses 59 = .ok (.iconst 1, 1) := dk_4 (dk_at dksX6_chooses_2 12 rfl rfl)
theorem dX6_chooses_60 : decode cX6_chooses 60 = .ok (.iload 8, 2) := dk_21 8 (dk_at dksX6_chooses_2 13 rfl rfl)
theorem dX6_chooses_62 : decode cX6_chooses 62 = .ok (.ishl, 1) := dk_120 (dk_at dksX6_chooses_2 15 rfl rfl)
theorem dX6_chooses_63 : decode cX6_chooses 63 = .ok (.iconst (-1), 1) := dk_2 (dk_at dksX6_chooses_2 16 rfl rfl)
theorem dX6_chooses_64 : decode cX6_chooses 64 = .ok (.ixor, 1) := dk_130 (dk_at dksX6_chooses_2 17 rfl rfl)
theorem dX6_chooses_65 : decode cX6_chooses 65 = .ok (.iand, 1) := dk_126 (dk_at dksX6_chooses_2 18 rfl rfl)
theorem dX6_chooses_66 : decode cX6_chooses 66 = .ok (.iload 4, 2) := dk_21 4 (dk_at dksX6_chooses_2 19 rfl rfl)
theorem dX6_chooses_68 : decode cX6_chooses 68 = .ok (.iconst 1, 1) := dk_4 (dk_at dksX6_chooses_2 21 rfl rfl)
theorem dX6_chooses_69 : decode cX6_chooses 69 = .ok (.iadd, 1) := dk_96 (dk_at dksX6_chooses_2 22 rfl rfl)
theorem dX6_chooses_70 : decode cX6_chooses 70 = .ok (.invokevirtual 80, 3) := dk_182 0 80 (dk_at dksX6_chooses_3 0 rfl rfl)
theorem dX6_chooses_73 : decode cX6_chooses 73 = .ok (.lsub, 1) := dk_101 (dk_at dksX6_chooses_3 3 rfl rfl)
theorem dX6_chooses_74 : decode cX6_chooses 74 = .ok (.lstore 9, 2) := dk_55 9 (dk_at dksX6_chooses_3 4 rfl rfl)
theorem dX6_chooses_76 : decode cX6_chooses 76 = .ok (.iload 5, 2) := dk_21 5 (dk_at dksX6_chooses_3 6 rfl rfl)
theorem dX6_chooses_78 : decode cX6_chooses 78 = .ok (.ifCond .eq 14, 3) := dk_153 0 14 (dk_at dksX6_chooses_3 8 rfl rfl)
theorem dX6_chooses_81 : decode cX6_chooses 81 = .ok (.lload 9, 2) := dk_22 9 (dk_at dksX6_chooses_3 11 rfl rfl)
theorem dX6_chooses_83 : decode cX6_chooses 83 = .ok (.lload 6, 2) := dk_22 6 (dk_at dksX6_chooses_3 13 rfl rfl)
theorem dX6_chooses_85 : decode cX6_chooses 85 = .ok (.lcmp, 1) := dk_148 (dk_at dksX6_chooses_3 15 rfl rfl)
theorem dX6_chooses_86 : decode cX6_chooses 86 = .ok (.ifCond .gt 6, 3) := dk_157 0 6 (dk_at dksX6_chooses_3 16 rfl rfl)
theorem dX6_chooses_89 : decode cX6_chooses 89 = .ok (.goto 23, 3) := dk_167 0 23 (dk_at dksX6_chooses_3 19 rfl rfl)
theorem dX6_chooses_92 : decode cX6_chooses 92 = .ok (.iconst 1, 1) := dk_4 (dk_at dksX6_chooses_3 22 rfl rfl)
theorem dX6_chooses_93 : decode cX6_chooses 93 = .ok (.istore 5, 2) := dk_54 5 (dk_at dksX6_chooses_4 0 rfl rfl)
theorem dX6_chooses_95 : decode cX6_chooses 95 = .ok (.lload 9, 2) := dk_22 9 (dk_at dksX6_chooses_4 2 rfl rfl)
theorem dX6_chooses_97 : decode cX6_chooses 97 = .ok (.lstore 6, 2) := dk_55 6 (dk_at dksX6_chooses_4 4 rfl rfl)
theorem dX6_chooses_99 : decode cX6_chooses 99 = .ok (.iload 4, 2) := dk_21 4 (dk_at dksX6_chooses_4 6 rfl rfl)
theorem dX6_chooses_101 : decode cX6_chooses 101 = .ok (.ifCond .ne 11, 3) := dk_154 0 11 (dk_at dksX6_chooses_4 8 rfl rfl)
theorem dX6_chooses_104 : decode cX6_chooses 104 = .ok (.aload_n 0, 1) := dk_42 (dk_at dksX6_chooses_4 11 rfl rfl)
theorem dX6_chooses_105 : decode cX6_chooses 105 = .ok (.getfield 29, 3) := dk_180 0 29 (dk_at dksX6_chooses_4 12 rfl rfl)
theorem dX6_chooses_108 : decode cX6_chooses 108 = .ok (.iconst 0, 1) := dk_3 (dk_at dksX6_chooses_4 15 rfl rfl)
theorem dX6_chooses_109 : decode cX6_chooses 109 = .ok (.iload 8, 2) := dk_21 8 (dk_at dksX6_chooses_4 16 rfl rfl)
theorem dX6_chooses_111 : decode cX6_chooses 111 = .ok (.iastore, 1) := dk_79 (dk_at dksX6_chooses_4 18 rfl rfl)
theorem dX6_chooses_112 : decode cX6_chooses 112 = .ok (.iinc 8 1, 3) := dk_132 8 1 (dk_at dksX6_chooses_4 19 rfl rfl)
theorem dX6_chooses_115 : decode cX6_chooses 115 = .ok (.goto (-93), 3) := dk_167 255 163 (dk_at dksX6_chooses_5 0 rfl rfl)
theorem dX6_chooses_118 : decode cX6_chooses 118 = .ok (.lload 6, 2) := dk_22 6 (dk_at dksX6_chooses_5 3 rfl rfl)
theorem dX6_chooses_120 : decode cX6_chooses 120 = .ok (.lreturn, 1) := dk_173 (dk_at dksX6_chooses_5 5 rfl rfl)
theorem q159 : (Jvm.Cond.initialized "VerbAtDusk$Giving") ∈ lw_all := lw_g (lw_at lw_m1 13 rfl) rfl
theorem q420 : (Jvm.Cond.instantiable "VerbAtDusk$Giving" (9 : Nat)) ∈ lw_all := lw_g (lw_at lw_m2 34 rfl) rfl
theorem q422 : (Jvm.Cond.instanceMethod ({ cls := "VerbAtDusk$Giving", name := "<init>", desc := "(LVerbAtDusk;)V" } : Jvm.MethodName)) ∈ lw_all := lw_g (lw_at lw_m2 36 rfl) rfl
theorem q423 : (Jvm.Cond.code ({ cls := "VerbAtDusk$Giving", name := "<init>", desc := "(LVerbAtDusk;)V" } : Jvm.MethodName) prog_9_method_1_code (2 : Nat) (Option.none : Option Jvm.ClassFile.FieldType)) ∈ lw_all := lw_g (lw_at lw_m2 37 rfl) rfl
theorem q424 : (Jvm.Cond.methodLink "VerbAtDusk$Giving" (9 : Nat) ({ cls := "java/lang/Object", name := "<init>", desc := "()V" } : Jvm.MethodName)) ∈ lw_all := lw_g (lw_at lw_m2 38 rfl) rfl
theorem q425 : (Jvm.Cond.classLink "VerbAtDusk$Giving" (15 : Nat) "[[Z") ∈ lw_all := lw_g (lw_at lw_m2 39 rfl) rfl
theorem q427 : (Jvm.Cond.classLink "VerbAtDusk$Giving" (20 : Nat) "[[J") ∈ lw_all := lw_g (lw_at lw_m2 41 rfl) rfl
theorem q429 : (Jvm.Cond.fieldLink "VerbAtDusk$Giving" (17 : Nat) "VerbAtDusk$Giving" "can" "[[Z") ∈ lw_all := lw_g (lw_at lw_m2 43 rfl) rfl
theorem q430 : (Jvm.Cond.fieldLink "VerbAtDusk$Giving" (22 : Nat) "VerbAtDusk$Giving" "well" "[[J") ∈ lw_all := lw_g (lw_at lw_m2 44 rfl) rfl
theorem q431 : (Jvm.Cond.fieldLink "VerbAtDusk$Giving" (25 : Nat) "VerbAtDusk$Giving" "best" "[I") ∈ lw_all := lw_g (lw_at lw_m2 45 rfl) rfl
theorem q434 : (Jvm.Cond.fieldLink "VerbAtDusk$Giving" (29 : Nat) "VerbAtDusk$Giving" "tried" "[I") ∈ lw_all := lw_g (lw_at lw_m2 48 rfl) rfl
theorem q436 : (Jvm.Cond.fieldLink "VerbAtDusk$Giving" (54 : Nat) "VerbAtDusk$Giving" "sack" "I") ∈ lw_all := lw_g (lw_at lw_m2 50 rfl) rfl
theorem q437 : (Jvm.Cond.fieldLink "VerbAtDusk$Giving" (57 : Nat) "VerbAtDusk$Giving" "is" "Z") ∈ lw_all := lw_g (lw_at lw_m2 51 rfl) rfl
theorem q440 : (Jvm.Cond.fieldLink "VerbAtDusk$Giving" (65 : Nat) "VerbAtDusk$Giving" "most" "J") ∈ lw_all := lw_g (lw_at lw_m2 54 rfl) rfl
theorem q442 : (Jvm.Cond.fieldLink "VerbAtDusk$Giving" (72 : Nat) "VerbAtDusk$Giving" "fewest" "I") ∈ lw_all := lw_g (lw_at lw_m2 56 rfl) rfl
theorem q444 : (Jvm.Cond.fieldLink "VerbAtDusk$Giving" (3 : Nat) "VerbAtDusk$Giving" "this$0" "LVerbAtDusk;") ∈ lw_all := lw_g (lw_at lw_m2 58 rfl) rfl
theorem q445 : (Jvm.Cond.laysFinal "VerbAtDusk$Giving" "VerbAtDusk$Giving" "can" "[[Z") ∈ lw_all := lw_g (lw_at lw_m2 59 rfl) rfl
theorem q446 : (Jvm.Cond.soleField "VerbAtDusk$Giving" "can") ∈ lw_all := lw_g (lw_at lw_m2 60 rfl) rfl
theorem q447 : (Jvm.Cond.laysFinal "VerbAtDusk$Giving" "VerbAtDusk$Giving" "well" "[[J") ∈ lw_all := lw_g (lw_at lw_m2 61 rfl) rfl
theorem q448 : (Jvm.Cond.soleField "VerbAtDusk$Giving" "well") ∈ lw_all := lw_g (lw_at lw_m2 62 rfl) rfl
theorem q449 : (Jvm.Cond.laysFinal "VerbAtDusk$Giving" "VerbAtDusk$Giving" "best" "[I") ∈ lw_all := lw_g (lw_at lw_m2 63 rfl) rfl
theorem q450 : (Jvm.Cond.soleField "VerbAtDusk$Giving" "best") ∈ lw_all := lw_g (lw_at lw_m2 64 rfl) rfl
theorem q451 : (Jvm.Cond.laysFinal "VerbAtDusk$Giving" "VerbAtDusk$Giving" "tried" "[I") ∈ lw_all := lw_g (lw_at lw_m2 65 rfl) rfl
theorem q452 : (Jvm.Cond.soleField "VerbAtDusk$Giving" "tried") ∈ lw_all := lw_g (lw_at lw_m2 66 rfl) rfl
theorem q453 : (Jvm.Cond.lays "VerbAtDusk$Giving" "VerbAtDusk$Giving" "sack" "I") ∈ lw_all := lw_g (lw_at lw_m2 67 rfl) rfl
theorem q454 : (Jvm.Cond.soleField "VerbAtDusk$Giving" "sack") ∈ lw_all := lw_g (lw_at lw_m2 68 rfl) rfl
theorem q455 : (Jvm.Cond.lays "VerbAtDusk$Giving" "VerbAtDusk$Giving" "is" "Z") ∈ lw_all := lw_g (lw_at lw_m2 69 rfl) rfl
theorem q456 : (Jvm.Cond.soleField "VerbAtDusk$Giving" "is") ∈ lw_all := lw_g (lw_at lw_m2 70 rfl) rfl
theorem q457 : (Jvm.Cond.lays "VerbAtDusk$Giving" "VerbAtDusk$Giving" "most" "J") ∈ lw_all := lw_g (lw_at lw_m2 71 rfl) rfl
theorem q458 : (Jvm.Cond.soleField "VerbAtDusk$Giving" "most") ∈ lw_all := lw_g (lw_at lw_m2 72 rfl) rfl
theorem q459 : (Jvm.Cond.lays "VerbAtDusk$Giving" "VerbAtDusk$Giving" "fewest" "I") ∈ lw_all := lw_g (lw_at lw_m2 73 rfl) rfl
theorem q460 : (Jvm.Cond.soleField "VerbAtDusk$Giving" "fewest") ∈ lw_all := lw_g (lw_at lw_m2 74 rfl) rfl
theorem q461 : (Jvm.Cond.laysFinal "VerbAtDusk$Giving" "VerbAtDusk$Giving" "this$0" "LVerbAtDusk;") ∈ lw_all := lw_g (lw_at lw_m2 75 rfl) rfl
theorem q462 : (Jvm.Cond.soleField "VerbAtDusk$Giving" "this$0") ∈ lw_all := lw_g (lw_at lw_m2 76 rfl) rfl
theorem q463 : (Jvm.Cond.superclass "VerbAtDusk$Giving" "java/lang/Object") ∈ lw_all := lw_g (lw_at lw_m2 77 rfl) rfl
theorem q958 : (Jvm.Cond.selects "VerbAtDusk$Giving" ({ cls := "java/lang/Object", name := "getClass", desc := "()Ljava/lang/Class;" } : Jvm.MethodName) ({ cls := "java/lang/Object", name := "getClass", desc := "()Ljava/lang/Class;" } : Jvm.MethodName)) ∈ lw_all := lw_g (lw_at lw_m4 92 rfl) rfl
theorem q1355 : (Jvm.Cond.instanceMethod ({ cls := "VerbAtDusk$Giving", name := "by", desc := "(LVerbAtDusk$State;)LVerbAtDusk$Giving;" } : Jvm.MethodName)) ∈ lw_all := lw_g (lw_at lw_m6 9 rfl) rfl
theorem q1356 : (Jvm.Cond.selects "VerbAtDusk$Giving" ({ cls := "VerbAtDusk$Giving", name := "by", desc := "(LVerbAtDusk$State;)LVerbAtDusk$Giving;" } : Jvm.MethodName) ({ cls := "VerbAtDusk$Giving", name := "by", desc := "(LVerbAtDusk$State;)LVerbAtDusk$Giving;" } : Jvm.MethodName)) ∈ lw_all := lw_g (lw_at lw_m6 10 rfl) rfl
theorem q1357 : (Jvm.Cond.code ({ cls := "VerbAtDusk$Giving", name := "by", desc := "(LVerbAtDusk$State;)LVerbAtDusk$Giving;" } : Jvm.MethodName) prog_9_method_2_code (4 : Nat) (Option.some (Jvm.ClassFile.FieldType.object "VerbAtDusk$Giving"))) ∈ lw_all := lw_g (lw_at lw_m6 11 rfl) rfl
theorem q1358 : (Jvm.Cond.methodLinkNest "VerbAtDusk$Giving" (32 : Nat) ({ cls := "VerbAtDusk", name := "sayings", desc := "()I" } : Jvm.MethodName) "VerbAtDusk") ∈ lw_tbl := lw_at lw_m6 12 rfl
theorem q1359 : (Jvm.Cond.methodLinkNest "VerbAtDusk$Giving" (36 : Nat) ({ cls := "VerbAtDusk", name := "verbs", desc := "()I" } : Jvm.MethodName) "VerbAtDusk") ∈ lw_tbl := lw_at lw_m6 13 rfl
theorem q1360 : (Jvm.Cond.methodLink "VerbAtDusk$Giving" (39 : Nat) ({ cls := "VerbAtDusk$State", name := "can", desc := "(II)Z" } : Jvm.MethodName)) ∈ lw_all := lw_g (lw_at lw_m6 14 rfl) rfl
theorem q1455 : (Jvm.Cond.methodLink "VerbAtDusk$Giving" (44 : Nat) ({ cls := "VerbAtDusk$State", name := "well", desc := "(II)J" } : Jvm.MethodName)) ∈ lw_all := lw_g (lw_at lw_m6 109 rfl) rfl
theorem q1456 : (Jvm.Cond.methodLink "VerbAtDusk$Giving" (47 : Nat) ({ cls := "VerbAtDusk$State", name := "sack", desc := "()I" } : Jvm.MethodName)) ∈ lw_all := lw_g (lw_at lw_m6 110 rfl) rfl
theorem q1461 : (Jvm.Cond.methodLink "VerbAtDusk$Giving" (50 : Nat) ({ cls := "VerbAtDusk$Giving", name := "in", desc := "(I)LVerbAtDusk$Giving;" } : Jvm.MethodName)) ∈ lw_all := lw_g (lw_at lw_m6 115 rfl) rfl
theorem q1462 : (Jvm.Cond.instanceMethod ({ cls := "VerbAtDusk$Giving", name := "in", desc := "(I)LVerbAtDusk$Giving;" } : Jvm.MethodName)) ∈ lw_all := lw_g (lw_at lw_m6 116 rfl) rfl
theorem q1463 : (Jvm.Cond.selects "VerbAtDusk$Giving" ({ cls := "VerbAtDusk$Giving", name := "in", desc := "(I)LVerbAtDusk$Giving;" } : Jvm.MethodName) ({ cls := "VerbAtDusk$Giving", name := "in", desc := "(I)LVerbAtDusk$Giving;" } : Jvm.MethodName)) ∈ lw_all := lw_g (lw_at lw_m6 117 rfl) rfl
theorem q1464 : (Jvm.Cond.code ({ cls := "VerbAtDusk$Giving", name := "in", desc := "(I)LVerbAtDusk$Giving;" } : Jvm.MethodName) prog_9_method_3_code (2 : Nat) (Option.some (Jvm.ClassFile.FieldType.object "VerbAtDusk$Giving"))) ∈ lw_all := lw_g (lw_at lw_m6 118 rfl) rfl
theorem q1465 : (Jvm.Cond.methodLink "VerbAtDusk$Giving" (61 : Nat) ({ cls := "VerbAtDusk$Giving", name := "gives", desc := "(IIJ)V" } : Jvm.MethodName)) ∈ lw_all := lw_g (lw_at lw_m6 119 rfl) rfl
theorem q1466 : (Jvm.Cond.privateMethod ({ cls := "VerbAtDusk$Giving", name := "gives", desc := "(IIJ)V" } : Jvm.MethodName)) ∈ lw_tbl := lw_at lw_m6 120 rfl
theorem q1467 : (Jvm.Cond.instanceMethod ({ cls := "VerbAtDusk$Giving", name := "gives", desc := "(IIJ)V" } : Jvm.MethodName)) ∈ lw_all := lw_g (lw_at lw_m6 121 rfl) rfl
theorem q1468 : (Jvm.Cond.code ({ cls := "VerbAtDusk$Giving", name := "gives", desc := "(IIJ)V" } : Jvm.MethodName) prog_9_method_4_code (6 : Nat) (Option.none : Option Jvm.ClassFile.FieldType)) ∈ lw_all := lw_g (lw_at lw_m6 122 rfl) rfl
theorem q1469 : (Jvm.Cond.methodLinkNest "VerbAtDusk$Giving" (69 : Nat) ({ cls := "VerbAtDusk", name := "has", desc := "(II)Z" } : Jvm.MethodName) "VerbAtDusk") ∈ lw_tbl := lw_at lw_m6 123 rfl
theorem q1539 : (Jvm.Cond.instanceMethod ({ cls := "VerbAtDusk$Giving", name := "spilt", desc := "()LVerbAtDusk$Giving;" } : Jvm.MethodName)) ∈ lw_all := lw_g (lw_at lw_m6 193 rfl) rfl
theorem q1540 : (Jvm.Cond.selects "VerbAtDusk$Giving" ({ cls := "VerbAtDusk$Giving", name := "spilt", desc := "()LVerbAtDusk$Giving;" } : Jvm.MethodName) ({ cls := "VerbAtDusk$Giving", name := "spilt", desc := "()LVerbAtDusk$Giving;" } : Jvm.MethodName)) ∈ lw_all := lw_g (lw_at lw_m6 194 rfl) rfl
theorem q1541 : (Jvm.Cond.code ({ cls := "VerbAtDusk$Giving", name := "spilt", desc := "()LVerbAtDusk$Giving;" } : Jvm.MethodName) prog_9_method_6_code (1 : Nat) (Option.some (Jvm.ClassFile.FieldType.object "VerbAtDusk$Giving"))) ∈ lw_all := lw_g (lw_at lw_m6 195 rfl) rfl
theorem q1542 : (Jvm.Cond.constant "VerbAtDusk$Giving" (79 : Nat) (100000000 : Int32)) ∈ lw_all := lw_g (lw_at lw_m6 196 rfl) rfl
theorem q1543 : (Jvm.Cond.methodLink "VerbAtDusk$Giving" (75 : Nat) ({ cls := "VerbAtDusk$Giving", name := "spills", desc := "(III)V" } : Jvm.MethodName)) ∈ lw_all := lw_g (lw_at lw_m6 197 rfl) rfl
theorem q1544 : (Jvm.Cond.privateMethod ({ cls := "VerbAtDusk$Giving", name := "spills", desc := "(III)V" } : Jvm.MethodName)) ∈ lw_tbl := lw_at lw_m6 198 rfl
theorem q1545 : (Jvm.Cond.instanceMethod ({ cls := "VerbAtDusk$Giving", name := "spills", desc := "(III)V" } : Jvm.MethodName)) ∈ lw_all := lw_g (lw_at lw_m6 199 rfl) rfl
theorem q1546 : (Jvm.Cond.code ({ cls := "VerbAtDusk$Giving", name := "spills", desc := "(III)V" } : Jvm.MethodName) prog_9_method_5_code (5 : Nat) (Option.none : Option Jvm.ClassFile.FieldType)) ∈ lw_all := lw_g (lw_at lw_m6 200 rfl) rfl
theorem q1552 : (Jvm.Cond.privateMethod ({ cls := "VerbAtDusk$Giving", name := "chooses", desc := "(IIII)J" } : Jvm.MethodName)) ∈ lw_tbl := lw_at lw_m6 206 rfl
theorem q1553 : (Jvm.Cond.instanceMethod ({ cls := "VerbAtDusk$Giving", name := "chooses", desc := "(IIII)J" } : Jvm.MethodName)) ∈ lw_all := lw_g (lw_at lw_m6 207 rfl) rfl
theorem q1554 : (Jvm.Cond.code ({ cls := "VerbAtDusk$Giving", name := "chooses", desc := "(IIII)J" } : Jvm.MethodName) prog_9_method_7_code (11 : Nat) (Option.some Jvm.ClassFile.FieldType.long)) ∈ lw_all := lw_g (lw_at lw_m6 208 rfl) rfl
theorem q1555 : (Jvm.Cond.methodLink "VerbAtDusk$Giving" (80 : Nat) ({ cls := "VerbAtDusk$Giving", name := "chooses", desc := "(IIII)J" } : Jvm.MethodName)) ∈ lw_all := lw_g (lw_at lw_m6 209 rfl) rfl
theorem q2650 : (Jvm.Cond.castable "VerbAtDusk$Giving" "java/lang/Object") ∈ lw_tbl := lw_at lw_m11 104 rfl
theorem in_X6 : ∀ w ∈ wsX60, w ∈ lw_all := lw_in wsX60 [445, 447, 449, 451, 453, 455, 457, 459, 461] (by decide +kernel) (by decide +kernel)
/-! VerbAtDusk$State -/
set_option maxRecDepth 100000
def RX7 : String := "VerbAtDusk$State"
def TX7 : u_T := fun k => match k with
  | 0 => ("VerbAtDusk$State", "day", "I", false)
  | 1 => ("VerbAtDusk$State", "lent", "I", false)
  | 2 => ("VerbAtDusk$State", "keeps", "I", false)
  | 3 => ("VerbAtDusk$State", "column", "[I", true)
  | 4 => ("VerbAtDusk$State", "row", "[I", true)
  | 5 => ("VerbAtDusk$State", "tone", "[I", true)
  | 6 => ("VerbAtDusk$State", "gets", "[I", true)
  | 7 => ("VerbAtDusk$State", "given", "[[I", true)
  | 8 => ("VerbAtDusk$State", "rows", "[[I", true)
  | _ => ("VerbAtDusk$State", "this$0", "LVerbAtDusk;", true)
def tyX7 : Nat → FieldType := fun k => match k with
  | 0 => .int
  | 1 => .int
  | 2 => .int
  | 3 => .array .int
  | 4 => .array .int
  | 5 => .array .int
  | 6 => .array .int
  | 7 => .array (.array .int)
  | 8 => .array (.array .int)
  | _ => .object "VerbAtDusk"
abbrev wsX70 : List Cond := u_ws RX7 TX7 10
theorem nmX7 : ∀ a, a < 10 → ∀ b, b < 10 → a ≠ b → (TX7 a).2.1 ≠ (TX7 b).2.1 := by decide +kernel
theorem tyX7_ok : ∀ k, k < 10 → parseFieldDescriptor (TX7 k).2.2.1 = some (tyX7 k) := by decide +kernel
abbrev cX7_init : ByteArray := prog_18_method_1_code
def yX7_init : MethodName := ⟨RX7, "<init>", "(LVerbAtDusk;)V"⟩
def dkwX7_init_2 : List UInt8 := [197, 0, 28, 2, 181, 0, 30, 42, 16, 50, 6, 197, 0, 28, 2, 181, 0, 33, 177]
abbrev dktX7_init_2 : List UInt8 := dkwX7_init_2 ++ []
def dkwX7_init_1 : List UInt8 := [181, 0, 19, 42, 16, 6, 188, 10, 181, 0, 22, 42, 16, 6, 188, 10, 181, 0, 25, 42, 16, 6, 16, 7]
abbrev dktX7_init_1 : List UInt8 := dkwX7_init_1 ++ dktX7_init_2
def dkwX7_init_0 : List UInt8 := [42, 43, 181, 0, 3, 42, 183, 0, 9, 42, 16, 6, 188, 10, 181, 0, 15, 42, 16, 6, 188, 10]
abbrev dktX7_init_0 : List UInt8 := dkwX7_init_0 ++ dktX7_init_1
theorem dksX7_init_0 : cX7_init.data.toList.drop 0 = dktX7_init_0 := by decide +kernel
theorem dksX7_init_1 : cX7_init.data.toList.drop 22 = dktX7_init_1 := dk_seg dksX7_init_0 22 rfl rfl
theorem dksX7_init_2 : cX7_init.data.toList.drop 46 = dktX7_init_2 := dk_seg dksX7_init_1 24 rfl rfl
theorem dX7_init_0 : decode cX7_init 0 = .ok (.aload_n 0, 1) := dk_42 (dk_at dksX7_init_0 0 rfl rfl)
theorem dX7_init_1 : decode cX7_init 1 = .ok (.aload_n 1, 1) := dk_43 (dk_at dksX7_init_0 1 rfl rfl)
theorem dX7_init_2 : decode cX7_init 2 = .ok (.putfield 3, 3) := dk_181 0 3 (dk_at dksX7_init_0 2 rfl rfl)
theorem dX7_init_5 : decode cX7_init 5 = .ok (.aload_n 0, 1) := dk_42 (dk_at dksX7_init_0 5 rfl rfl)
theorem dX7_init_6 : decode cX7_init 6 = .ok (.invokespecial 9, 3) := dk_183 0 9 (dk_at dksX7_init_0 6 rfl rfl)
theorem dX7_init_9 : decode cX7_init 9 = .ok (.aload_n 0, 1) := dk_42 (dk_at dksX7_init_0 9 rfl rfl)
theorem dX7_init_10 : decode cX7_init 10 = .ok (.bipush 6, 2) := dk_16 6 (dk_at dksX7_init_0 10 rfl rfl)
theorem dX7_init_12 : decode cX7_init 12 = .ok (.newarray .int, 2) := dk_188_10 (dk_at dksX7_init_0 12 rfl rfl)
theorem dX7_init_14 : decode cX7_init 14 = .ok (.putfield 15, 3) := dk_181 0 15 (dk_at dksX7_init_0 14 rfl rfl)
theorem dX7_init_17 : decode cX7_init 17 = .ok (.aload_n 0, 1) := dk_42 (dk_at dksX7_init_0 17 rfl rfl)
theorem dX7_init_18 : decode cX7_init 18 = .ok (.bipush 6, 2) := dk_16 6 (dk_at dksX7_init_0 18 rfl rfl)
theorem dX7_init_20 : decode cX7_init 20 = .ok (.newarray .int, 2) := dk_188_10 (dk_at dksX7_init_0 20 rfl rfl)
theorem dX7_init_22 : decode cX7_init 22 = .ok (.putfield 19, 3) := dk_181 0 19 (dk_at dksX7_init_1 0 rfl rfl)
theorem dX7_init_25 : decode cX7_init 25 = .ok (.aload_n 0, 1) := dk_42 (dk_at dksX7_init_1 3 rfl rfl)
theorem dX7_init_26 : decode cX7_init 26 = .ok (.bipush 6, 2) := dk_16 6 (dk_at dksX7_init_1 4 rfl rfl)
theorem dX7_init_28 : decode cX7_init 28 = .ok (.newarray .int, 2) := dk_188_10 (dk_at dksX7_init_1 6 rfl rfl)
theorem dX7_init_30 : decode cX7_init 30 = .ok (.putfield 22, 3) := dk_181 0 22 (dk_at dksX7_init_1 8 rfl rfl)
theorem dX7_init_33 : decode cX7_init 33 = .ok (.aload_n 0, 1) := dk_42 (dk_at dksX7_init_1 11 rfl rfl)
theorem dX7_init_34 : decode cX7_init 34 = .ok (.bipush 6, 2) := dk_16 6 (dk_at dksX7_init_1 12 rfl rfl)
theorem dX7_init_36 : decode cX7_init 36 = .ok (.newarray .int, 2) := dk_188_10 (dk_at dksX7_init_1 14 rfl rfl)
theorem dX7_init_38 : decode cX7_init 38 = .ok (.putfield 25, 3) := dk_181 0 25 (dk_at dksX7_init_1 16 rfl rfl)
theorem dX7_init_41 : decode cX7_init 41 = .ok (.aload_n 0, 1) := dk_42 (dk_at dksX7_init_1 19 rfl rfl)
theorem dX7_init_42 : decode cX7_init 42 = .ok (.bipush 6, 2) := dk_16 6 (dk_at dksX7_init_1 20 rfl rfl)
theorem dX7_init_44 : decode cX7_init 44 = .ok (.bipush 7, 2) := dk_16 7 (dk_at dksX7_init_1 22 rfl rfl)
theorem dX7_init_46 : decode cX7_init 46 = .ok (.multianewarray 28 2, 4) := by decide +kernel
theorem dX7_init_50 : decode cX7_init 50 = .ok (.putfield 30, 3) := dk_181 0 30 (dk_at dksX7_init_2 4 rfl rfl)
theorem dX7_init_53 : decode cX7_init 53 = .ok (.aload_n 0, 1) := dk_42 (dk_at dksX7_init_2 7 rfl rfl)
theorem dX7_init_54 : decode cX7_init 54 = .ok (.bipush 50, 2) := dk_16 50 (dk_at dksX7_init_2 8 rfl rfl)
theorem dX7_init_56 : decode cX7_init 56 = .ok (.iconst 3, 1) := dk_6 (dk_at dksX7_init_2 10 rfl rfl)
theorem dX7_init_57 : decode cX7_init 57 = .ok (.multianewarray 28 2, 4) := by decide +kernel
theorem dX7_init_61 : decode cX7_init 61 = .ok (.putfield 33, 3) := dk_181 0 33 (dk_at dksX7_init_2 15 rfl rfl)
theorem dX7_init_64 : decode cX7_init 64 = .ok (.return_, 1) := dk_177 (dk_at dksX7_init_2 18 rfl rfl)
abbrev cX7_begins : ByteArray := prog_18_method_2_code
def yX7_begins : MethodName := ⟨RX7, "begins", "()V"⟩
def dkwX7_begins_6 : List UInt8 := [167, 255, 238, 132, 1, 1, 167, 255, 135, 177]
abbrev dktX7_begins_6 : List UInt8 := dkwX7_begins_6 ++ []
def dkwX7_begins_5 : List UInt8 := [180, 0, 72, 79, 3, 61, 28, 16, 7, 162, 0, 18, 42, 180, 0, 30, 27, 50, 28, 3, 79, 132, 2, 1]
abbrev dktX7_begins_5 : List UInt8 := dkwX7_begins_5 ++ dktX7_begins_6
def dkwX7_begins_4 : List UInt8 := [180, 0, 22, 27, 42, 180, 0, 3, 180, 0, 43, 180, 0, 57, 27, 185, 0, 60, 2, 0, 192, 0, 66]
abbrev dktX7_begins_4 : List UInt8 := dkwX7_begins_4 ++ dktX7_begins_5
def dkwX7_begins_3 : List UInt8 := [42, 180, 0, 3, 180, 0, 43, 180, 0, 57, 27, 185, 0, 60, 2, 0, 192, 0, 66, 180, 0, 70, 79, 42]
abbrev dktX7_begins_3 : List UInt8 := dkwX7_begins_3 ++ dktX7_begins_4
def dkwX7_begins_2 : List UInt8 := [180, 0, 43, 180, 0, 57, 27, 185, 0, 60, 2, 0, 192, 0, 66, 180, 0, 68, 79, 42, 180, 0, 19, 27]
abbrev dktX7_begins_2 : List UInt8 := dkwX7_begins_2 ++ dktX7_begins_3
def dkwX7_begins_1 : List UInt8 := [3, 60, 27, 42, 180, 0, 3, 182, 0, 53, 162, 0, 116, 42, 180, 0, 15, 27, 42, 180, 0, 3]
abbrev dktX7_begins_1 : List UInt8 := dkwX7_begins_1 ++ dktX7_begins_2
def dkwX7_begins_0 : List UInt8 := [42, 3, 181, 0, 36, 42, 3, 181, 0, 40, 42, 42, 180, 0, 3, 180, 0, 43, 180, 0, 47, 181, 0, 52]
abbrev dktX7_begins_0 : List UInt8 := dkwX7_begins_0 ++ dktX7_begins_1
theorem dksX7_begins_0 : cX7_begins.data.toList.drop 0 = dktX7_begins_0 := by decide +kernel
theorem dksX7_begins_1 : cX7_begins.data.toList.drop 24 = dktX7_begins_1 := dk_seg dksX7_begins_0 24 rfl rfl
theorem dksX7_begins_2 : cX7_begins.data.toList.drop 46 = dktX7_begins_2 := dk_seg dksX7_begins_1 22 rfl rfl
theorem dksX7_begins_3 : cX7_begins.data.toList.drop 70 = dktX7_begins_3 := dk_seg dksX7_begins_2 24 rfl rfl
theorem dksX7_begins_4 : cX7_begins.data.toList.drop 94 = dktX7_begins_4 := dk_seg dksX7_begins_3 24 rfl rfl
theorem dksX7_begins_5 : cX7_begins.data.toList.drop 117 = dktX7_begins_5 := dk_seg dksX7_begins_4 23 rfl rfl
theorem dksX7_begins_6 : cX7_begins.data.toList.drop 141 = dktX7_begins_6 := dk_seg dksX7_begins_5 24 rfl rfl
theorem dX7_begins_0 : decode cX7_begins 0 = .ok (.aload_n 0, 1) := dk_42 (dk_at dksX7_begins_0 0 rfl rfl)
theorem dX7_begins_1 : decode cX7_begins 1 = .ok (.iconst 0, 1) := dk_3 (dk_at dksX7_begins_0 1 rfl rfl)
theorem dX7_begins_2 : decode cX7_begins 2 = .ok (.putfield 36, 3) := dk_181 0 36 (dk_at dksX7_begins_0 2 rfl rfl)
theorem dX7_begins_5 : decode cX7_begins 5 = .ok (.aload_n 0, 1) := dk_42 (dk_at dksX7_begins_0 5 rfl rfl)
theorem dX7_begins_6 : decode cX7_begins 6 = .ok (.iconst 0, 1) := dk_3 (dk_at dksX7_begins_0 6 rfl rfl)
theorem dX7_begins_7 : decode cX7_begins 7 = .ok (.putfield 40, 3) := dk_181 0 40 (dk_at dksX7_begins_0 7 rfl rfl)
theorem dX7_begins_10 : decode cX7_begins 10 = .ok (.aload_n 0, 1) := dk_42 (dk_at dksX7_begins_0 10 rfl rfl)
theorem dX7_begins_11 : decode cX7_begins 11 = .ok (.aload_n 0, 1) := dk_42 (dk_at dksX7_begins_0 11 rfl rfl)
theorem dX7_begins_12 : decode cX7_begins 12 = .ok (.getfield 3, 3) := dk_180 0 3 (dk_at dksX7_begins_0 12 rfl rfl)
theorem dX7_begins_15 : decode cX7_begins 15 = .ok (.getfield 43, 3) := dk_180 0 43 (dk_at dksX7_begins_0 15 rfl rfl)
theorem dX7_begins_18 : decode cX7_begins 18 = .ok (.getfield 47, 3) := dk_180 0 47 (dk_at dksX7_begins_0 18 rfl rfl)
theorem dX7_begins_21 : decode cX7_begins 21 = .ok (.putfield 52, 3) := dk_181 0 52 (dk_at dksX7_begins_0 21 rfl rfl)
theorem dX7_begins_24 : decode cX7_begins 24 = .ok (.iconst 0, 1) := dk_3 (dk_at dksX7_begins_1 0 rfl rfl)
theorem dX7_begins_25 : decode cX7_begins 25 = .ok (.istore_n 1, 1) := dk_60 (dk_at dksX7_begins_1 1 rfl rfl)
theorem dX7_begins_26 : decode cX7_begins 26 = .ok (.iload_n 1, 1) := dk_27 (dk_at dksX7_begins_1 2 rfl rfl)
theorem dX7_begins_27 : decode cX7_begins 27 = .ok (.aload_n 0, 1) := dk_42 (dk_at dksX7_begins_1 3 rfl rfl)
theorem dX7_begins_28 : decode cX7_begins 28 = .ok (.getfield 3, 3) := dk_180 0 3 (dk_at dksX7_begins_1 4 rfl rfl)
theorem dX7_begins_31 : decode cX7_begins 31 = .ok (.invokevirtual 53, 3) := dk_182 0 53 (dk_at dksX7_begins_1 7 rfl rfl)
theorem dX7_begins_34 : decode cX7_begins 34 = .ok (.if_icmp .ge 116, 3) := dk_162 0 116 (dk_at dksX7_begins_1 10 rfl rfl)
theorem dX7_begins_37 : decode cX7_begins 37 = .ok (.aload_n 0, 1) := dk_42 (dk_at dksX7_begins_1 13 rfl rfl)
theorem dX7_begins_38 : decode cX7_begins 38 = .ok (.getfield 15, 3) := dk_180 0 15 (dk_at dksX7_begins_1 14 rfl rfl)
theorem dX7_begins_41 : decode cX7_begins 41 = .ok (.iload_n 1, 1) := dk_27 (dk_at dksX7_begins_1 17 rfl rfl)
theorem dX7_begins_42 : decode cX7_begins 42 = .ok (.aload_n 0, 1) := dk_42 (dk_at dksX7_begins_1 18 rfl rfl)
theorem dX7_begins_43 : decode cX7_begins 43 = .ok (.getfield 3, 3) := dk_180 0 3 (dk_at dksX7_begins_1 19 rfl rfl)
theorem dX7_begins_46 : decode cX7_begins 46 = .ok (.getfield 43, 3) := dk_180 0 43 (dk_at dksX7_begins_2 0 rfl rfl)
theorem dX7_begins_49 : decode cX7_begins 49 = .ok (.getfield 57, 3) := dk_180 0 57 (dk_at dksX7_begins_2 3 rfl rfl)
theorem dX7_begins_52 : decode cX7_begins 52 = .ok (.iload_n 1, 1) := dk_27 (dk_at dksX7_begins_2 6 rfl rfl)
theorem dX7_begins_53 : decode cX7_begins 53 = .ok (.invokeinterface 60 2, 5) := by decide +kernel
theorem dX7_begins_58 : decode cX7_begins 58 = .ok (.checkcast 66, 3) := dk_192 0 66 (dk_at dksX7_begins_2 12 rfl rfl)
theorem dX7_begins_61 : decode cX7_begins 61 = .ok (.getfield 68, 3) := dk_180 0 68 (dk_at dksX7_begins_2 15 rfl rfl)
theorem dX7_begins_64 : decode cX7_begins 64 = .ok (.iastore, 1) := dk_79 (dk_at dksX7_begins_2 18 rfl rfl)
theorem dX7_begins_65 : decode cX7_begins 65 = .ok (.aload_n 0, 1) := dk_42 (dk_at dksX7_begins_2 19 rfl rfl)
theorem dX7_begins_66 : decode cX7_begins 66 = .ok (.getfield 19, 3) := dk_180 0 19 (dk_at dksX7_begins_2 20 rfl rfl)
theorem dX7_begins_69 : decode cX7_begins 69 = .ok (.iload_n 1, 1) := dk_27 (dk_at dksX7_begins_2 23 rfl rfl)
theorem dX7_begins_70 : decode cX7_begins 70 = .ok (.aload_n 0, 1) := dk_42 (dk_at dksX7_begins_3 0 rfl rfl)
theorem dX7_begins_71 : decode cX7_begins 71 = .ok (.getfield 3, 3) := dk_180 0 3 (dk_at dksX7_begins_3 1 rfl rfl)
theorem dX7_begins_74 : decode cX7_begins 74 = .ok (.getfield 43, 3) := dk_180 0 43 (dk_at dksX7_begins_3 4 rfl rfl)
theorem dX7_begins_77 : decode cX7_begins 77 = .ok (.getfield 57, 3) := dk_180 0 57 (dk_at dksX7_begins_3 7 rfl rfl)
theorem dX7_begins_80 : decode cX7_begins 80 = .ok (.iload_n 1, 1) := dk_27 (dk_at dksX7_begins_3 10 rfl rfl)
theorem dX7_begins_81 : decode cX7_begins 81 = .ok (.invokeinterface 60 2, 5) := by decide +kernel
theorem dX7_begins_86 : decode cX7_begins 86 = .ok (.checkcast 66, 3) := dk_192 0 66 (dk_at dksX7_begins_3 16 rfl rfl)
theorem dX7_begins_89 : decode cX7_begins 89 = .ok (.getfield 70, 3) := dk_180 0 70 (dk_at dksX7_begins_3 19 rfl rfl)
theorem dX7_begins_92 : decode cX7_begins 92 = .ok (.iastore, 1) := dk_79 (dk_at dksX7_begins_3 22 rfl rfl)
theorem dX7_begins_93 : decode cX7_begins 93 = .ok (.aload_n 0, 1) := dk_42 (dk_at dksX7_begins_3 23 rfl rfl)
theorem dX7_begins_94 : decode cX7_begins 94 = .ok (.getfield 22, 3) := dk_180 0 22 (dk_at dksX7_begins_4 0 rfl rfl)
theorem dX7_begins_97 : decode cX7_begins 97 = .ok (.iload_n 1, 1) := dk_27 (dk_at dksX7_begins_4 3 rfl rfl)
theorem dX7_begins_98 : decode cX7_begins 98 = .ok (.aload_n 0, 1) := dk_42 (dk_at dksX7_begins_4 4 rfl rfl)
theorem dX7_begins_99 : decode cX7_begins 99 = .ok (.getfield 3, 3) := dk_180 0 3 (dk_at dksX7_begins_4 5 rfl rfl)
theorem dX7_begins_102 : decode cX7_begins 102 = .ok (.getfield 43, 3) := dk_180 0 43 (dk_at dksX7_begins_4 8 rfl rfl)
theorem dX7_begins_105 : decode cX7_begins 105 = .ok (.getfield 57, 3) := dk_180 0 57 (dk_at dksX7_begins_4 11 rfl rfl)
theorem dX7_begins_108 : decode cX7_begins 108 = .ok (.iload_n 1, 1) := dk_27 (dk_at dksX7_begins_4 14 rfl rfl)
theorem dX7_begins_109 : decode cX7_begins 109 = .ok (.invokeinterface 60 2, 5) := by decide +kernel
theorem dX7_begins_114 : decode cX7_begins 114 = .ok (.checkcast 66, 3) := dk_192 0 66 (dk_at dksX7_begins_4 20 rfl rfl)
theorem dX7_begins_117 : decode cX7_begins 117 = .ok (.getfield 72, 3) := dk_180 0 72 (dk_at dksX7_begins_5 0 rfl rfl)
theorem dX7_begins_120 : decode cX7_begins 120 = .ok (.iastore, 1) := dk_79 (dk_at dksX7_begins_5 3 rfl rfl)
theorem dX7_begins_121 : decode cX7_begins 121 = .ok (.iconst 0, 1) := dk_3 (dk_at dksX7_begins_5 4 rfl rfl)
theorem dX7_begins_122 : decode cX7_begins 122 = .ok (.istore_n 2, 1) := dk_61 (dk_at dksX7_begins_5 5 rfl rfl)
theorem dX7_begins_123 : decode cX7_begins 123 = .ok (.iload_n 2, 1) := dk_28 (dk_at dksX7_begins_5 6 rfl rfl)
theorem dX7_begins_124 : decode cX7_begins 124 = .ok (.bipush 7, 2) := dk_16 7 (dk_at dksX7_begins_5 7 rfl rfl)
theorem dX7_begins_126 : decode cX7_begins 126 = .ok (.if_icmp .ge 18, 3) := dk_162 0 18 (dk_at dksX7_begins_5 9 rfl rfl)
theorem dX7_begins_129 : decode cX7_begins 129 = .ok (.aload_n 0, 1) := dk_42 (dk_at dksX7_begins_5 12 rfl rfl)
theorem dX7_begins_130 : decode cX7_begins 130 = .ok (.getfield 30, 3) := dk_180 0 30 (dk_at dksX7_begins_5 13 rfl rfl)
theorem dX7_begins_133 : decode cX7_begins 133 = .ok (.iload_n 1, 1) := dk_27 (dk_at dksX7_begins_5 16 rfl rfl)
theorem dX7_begins_134 : decode cX7_begins 134 = .ok (.aaload, 1) := dk_50 (dk_at dksX7_begins_5 17 rfl rfl)
theorem dX7_begins_135 : decode cX7_begins 135 = .ok (.iload_n 2, 1) := dk_28 (dk_at dksX7_begins_5 18 rfl rfl)
theorem dX7_begins_136 : decode cX7_begins 136 = .ok (.iconst 0, 1) := dk_3 (dk_at dksX7_begins_5 19 rfl rfl)
theorem dX7_begins_137 : decode cX7_begins 137 = .ok (.iastore, 1) := dk_79 (dk_at dksX7_begins_5 20 rfl rfl)
theorem dX7_begins_138 : decode cX7_begins 138 = .ok (.iinc 2 1, 3) := dk_132 2 1 (dk_at dksX7_begins_5 21 rfl rfl)
theorem dX7_begins_141 : decode cX7_begins 141 = .ok (.goto (-18), 3) := dk_167 255 238 (dk_at dksX7_begins_6 0 rfl rfl)
theorem dX7_begins_144 : decode cX7_begins 144 = .ok (.iinc 1 1, 3) := dk_132 1 1 (dk_at dksX7_begins_6 3 rfl rfl)
theorem dX7_begins_147 : decode cX7_begins 147 = .ok (.goto (-121), 3) := dk_167 255 135 (dk_at dksX7_begins_6 6 rfl rfl)
theorem dX7_begins_150 : decode cX7_begins 150 = .ok (.return_, 1) := dk_177 (dk_at dksX7_begins_6 9 rfl rfl)
abbrev cX7_can : ByteArray := prog_18_method_6_code
def yX7_can : MethodName := ⟨RX7, "can", "(II)Z"⟩
def dkwX7_can_1 : List UInt8 := [180, 0, 3, 180, 0, 43, 180, 0, 97, 42, 180, 0, 3, 180, 0, 77, 182, 0, 105, 172]
abbrev dktX7_can_1 : List UInt8 := dkwX7_can_1 ++ []
def dkwX7_can_0 : List UInt8 := [42, 180, 0, 3, 180, 0, 43, 180, 0, 97, 199, 0, 5, 4, 172, 42, 27, 28, 182, 0, 101, 42]
abbrev dktX7_can_0 : List UInt8 := dkwX7_can_0 ++ dktX7_can_1
theorem dksX7_can_0 : cX7_can.data.toList.drop 0 = dktX7_can_0 := by decide +kernel
theorem dksX7_can_1 : cX7_can.data.toList.drop 22 = dktX7_can_1 := dk_seg dksX7_can_0 22 rfl rfl
theorem dX7_can_0 : decode cX7_can 0 = .ok (.aload_n 0, 1) := dk_42 (dk_at dksX7_can_0 0 rfl rfl)
theorem dX7_can_1 : decode cX7_can 1 = .ok (.getfield 3, 3) := dk_180 0 3 (dk_at dksX7_can_0 1 rfl rfl)
theorem dX7_can_4 : decode cX7_can 4 = .ok (.getfield 43, 3) := dk_180 0 43 (dk_at dksX7_can_0 4 rfl rfl)
theorem dX7_can_7 : decode cX7_can 7 = .ok (.getfield 97, 3) := dk_180 0 97 (dk_at dksX7_can_0 7 rfl rfl)
theorem dX7_can_10 : decode cX7_can 10 = .ok (.ifnonnull 5, 3) := dk_199 0 5 (dk_at dksX7_can_0 10 rfl rfl)
theorem dX7_can_13 : decode cX7_can 13 = .ok (.iconst 1, 1) := dk_4 (dk_at dksX7_can_0 13 rfl rfl)
theorem dX7_can_14 : decode cX7_can 14 = .ok (.ireturn, 1) := dk_172 (dk_at dksX7_can_0 14 rfl rfl)
theorem dX7_can_15 : decode cX7_can 15 = .ok (.aload_n 0, 1) := dk_42 (dk_at dksX7_can_0 15 rfl rfl)
theorem dX7_can_16 : decode cX7_can 16 = .ok (.iload_n 1, 1) := dk_27 (dk_at dksX7_can_0 16 rfl rfl)
theorem dX7_can_17 : decode cX7_can 17 = .ok (.iload_n 2, 1) := dk_28 (dk_at dksX7_can_0 17 rfl rfl)
theorem dX7_can_18 : decode cX7_can 18 = .ok (.invokevirtual 101, 3) := dk_182 0 101 (dk_at dksX7_can_0 18 rfl rfl)
theorem dX7_can_21 : decode cX7_can 21 = .ok (.aload_n 0, 1) := dk_42 (dk_at dksX7_can_0 21 rfl rfl)
theorem dX7_can_22 : decode cX7_can 22 = .ok (.getfield 3, 3) := dk_180 0 3 (dk_at dksX7_can_1 0 rfl rfl)
theorem dX7_can_25 : decode cX7_can 25 = .ok (.getfield 43, 3) := dk_180 0 43 (dk_at dksX7_can_1 3 rfl rfl)
theorem dX7_can_28 : decode cX7_can 28 = .ok (.getfield 97, 3) := dk_180 0 97 (dk_at dksX7_can_1 6 rfl rfl)
theorem dX7_can_31 : decode cX7_can 31 = .ok (.aload_n 0, 1) := dk_42 (dk_at dksX7_can_1 9 rfl rfl)
theorem dX7_can_32 : decode cX7_can 32 = .ok (.getfield 3, 3) := dk_180 0 3 (dk_at dksX7_can_1 10 rfl rfl)
theorem dX7_can_35 : decode cX7_can 35 = .ok (.getfield 77, 3) := dk_180 0 77 (dk_at dksX7_can_1 13 rfl rfl)
theorem dX7_can_38 : decode cX7_can 38 = .ok (.invokevirtual 105, 3) := dk_182 0 105 (dk_at dksX7_can_1 16 rfl rfl)
theorem dX7_can_41 : decode cX7_can 41 = .ok (.ireturn, 1) := dk_172 (dk_at dksX7_can_1 19 rfl rfl)
abbrev cX7_asks : ByteArray := prog_18_method_5_code
def yX7_asks : MethodName := ⟨RX7, "asks", "(II)V"⟩
def dkwX7_asks_5 : List UInt8 := [180, 0, 81, 7, 42, 180, 0, 36, 133, 80, 177]
abbrev dktX7_asks_5 : List UInt8 := dkwX7_asks_5 ++ []
def dkwX7_asks_4 : List UInt8 := [180, 0, 77, 180, 0, 81, 6, 42, 180, 0, 30, 27, 50, 28, 46, 133, 80, 42, 180, 0, 3, 180, 0, 77]
abbrev dktX7_asks_4 : List UInt8 := dkwX7_asks_4 ++ dktX7_asks_5
def dkwX7_asks_3 : List UInt8 := [180, 0, 43, 180, 0, 87, 28, 185, 0, 60, 2, 0, 192, 0, 89, 180, 0, 94, 133, 80, 42, 180, 0, 3]
abbrev dktX7_asks_3 : List UInt8 := dkwX7_asks_3 ++ dktX7_asks_4
def dkwX7_asks_2 : List UInt8 := [192, 0, 89, 180, 0, 91, 133, 80, 42, 180, 0, 3, 180, 0, 77, 180, 0, 81, 5, 42, 180, 0, 3]
abbrev dktX7_asks_2 : List UInt8 := dkwX7_asks_2 ++ dktX7_asks_3
def dkwX7_asks_1 : List UInt8 := [180, 0, 77, 180, 0, 81, 4, 42, 180, 0, 3, 180, 0, 43, 180, 0, 87, 28, 185, 0, 60, 2, 0]
abbrev dktX7_asks_1 : List UInt8 := dkwX7_asks_1 ++ dktX7_asks_2
def dkwX7_asks_0 : List UInt8 := [42, 180, 0, 3, 180, 0, 77, 180, 0, 81, 3, 42, 180, 0, 22, 27, 46, 133, 80, 42, 180, 0, 3]
abbrev dktX7_asks_0 : List UInt8 := dkwX7_asks_0 ++ dktX7_asks_1
theorem dksX7_asks_0 : cX7_asks.data.toList.drop 0 = dktX7_asks_0 := by decide +kernel
theorem dksX7_asks_1 : cX7_asks.data.toList.drop 23 = dktX7_asks_1 := dk_seg dksX7_asks_0 23 rfl rfl
theorem dksX7_asks_2 : cX7_asks.data.toList.drop 46 = dktX7_asks_2 := dk_seg dksX7_asks_1 23 rfl rfl
theorem dksX7_asks_3 : cX7_asks.data.toList.drop 69 = dktX7_asks_3 := dk_seg dksX7_asks_2 23 rfl rfl
theorem dksX7_asks_4 : cX7_asks.data.toList.drop 93 = dktX7_asks_4 := dk_seg dksX7_asks_3 24 rfl rfl
theorem dksX7_asks_5 : cX7_asks.data.toList.drop 117 = dktX7_asks_5 := dk_seg dksX7_asks_4 24 rfl rfl
theorem dX7_asks_0 : decode cX7_asks 0 = .ok (.aload_n 0, 1) := dk_42 (dk_at dksX7_asks_0 0 rfl rfl)
theorem dX7_asks_1 : decode cX7_asks 1 = .ok (.getfield 3, 3) := dk_180 0 3 (dk_at dksX7_asks_0 1 rfl rfl)
theorem dX7_asks_4 : decode cX7_asks 4 = .ok (.getfield 77, 3) := dk_180 0 77 (dk_at dksX7_asks_0 4 rfl rfl)
theorem dX7_asks_7 : decode cX7_asks 7 = .ok (.getfield 81, 3) := dk_180 0 81 (dk_at dksX7_asks_0 7 rfl rfl)
theorem dX7_asks_10 : decode cX7_asks 10 = .ok (.iconst 0, 1) := dk_3 (dk_at dksX7_asks_0 10 rfl rfl)
theorem dX7_asks_11 : decode cX7_asks 11 = .ok (.aload_n 0, 1) := dk_42 (dk_at dksX7_asks_0 11 rfl rfl)
theorem dX7_asks_12 : decode cX7_asks 12 = .ok (.getfield 22, 3) := dk_180 0 22 (dk_at dksX7_asks_0 12 rfl rfl)
theorem dX7_asks_15 : decode cX7_asks 15 = .ok (.iload_n 1, 1) := dk_27 (dk_at dksX7_asks_0 15 rfl rfl)
theorem dX7_asks_16 : decode cX7_asks 16 = .ok (.iaload, 1) := dk_46 (dk_at dksX7_asks_0 16 rfl rfl)
theorem dX7_asks_17 : decode cX7_asks 17 = .ok (.i2l, 1) := dk_133 (dk_at dksX7_asks_0 17 rfl rfl)
theorem dX7_asks_18 : decode cX7_asks 18 = .ok (.lastore, 1) := dk_80 (dk_at dksX7_asks_0 18 rfl rfl)
theorem dX7_asks_19 : decode cX7_asks 19 = .ok (.aload_n 0, 1) := dk_42 (dk_at dksX7_asks_0 19 rfl rfl)
theorem dX7_asks_20 : decode cX7_asks 20 = .ok (.getfield 3, 3) := dk_180 0 3 (dk_at dksX7_asks_0 20 rfl rfl)
theorem dX7_asks_23 : decode cX7_asks 23 = .ok (.getfield 77, 3) := dk_180 0 77 (dk_at dksX7_asks_1 0 rfl rfl)
theorem dX7_asks_26 : decode cX7_asks 26 = .ok (.getfield 81, 3) := dk_180 0 81 (dk_at dksX7_asks_1 3 rfl rfl)
theorem dX7_asks_29 : decode cX7_asks 29 = .ok (.iconst 1, 1) := dk_4 (dk_at dksX7_asks_1 6 rfl rfl)
theorem dX7_asks_30 : decode cX7_asks 30 = .ok (.aload_n 0, 1) := dk_42 (dk_at dksX7_asks_1 7 rfl rfl)
theorem dX7_asks_31 : decode cX7_asks 31 = .ok (.getfield 3, 3) := dk_180 0 3 (dk_at dksX7_asks_1 8 rfl rfl)
theorem dX7_asks_34 : decode cX7_asks 34 = .ok (.getfield 43, 3) := dk_180 0 43 (dk_at dksX7_asks_1 11 rfl rfl)
theorem dX7_asks_37 : decode cX7_asks 37 = .ok (.getfield 87, 3) := dk_180 0 87 (dk_at dksX7_asks_1 14 rfl rfl)
theorem dX7_asks_40 : decode cX7_asks 40 = .ok (.iload_n 2, 1) := dk_28 (dk_at dksX7_asks_1 17 rfl rfl)
theorem dX7_asks_41 : decode cX7_asks 41 = .ok (.invokeinterface 60 2, 5) := by decide +kernel
theorem dX7_asks_46 : decode cX7_asks 46 = .ok (.checkcast 89, 3) := dk_192 0 89 (dk_at dksX7_asks_2 0 rfl rfl)
theorem dX7_asks_49 : decode cX7_asks 49 = .ok (.getfield 91, 3) := dk_180 0 91 (dk_at dksX7_asks_2 3 rfl rfl)
theorem dX7_asks_52 : decode cX7_asks 52 = .ok (.i2l, 1) := dk_133 (dk_at dksX7_asks_2 6 rfl rfl)
theorem dX7_asks_53 : decode cX7_asks 53 = .ok (.lastore, 1) := dk_80 (dk_at dksX7_asks_2 7 rfl rfl)
theorem dX7_asks_54 : decode cX7_asks 54 = .ok (.aload_n 0, 1) := dk_42 (dk_at dksX7_asks_2 8 rfl rfl)
theorem dX7_asks_55 : decode cX7_asks 55 = .ok (.getfield 3, 3) := dk_180 0 3 (dk_at dksX7_asks_2 9 rfl rfl)
theorem dX7_asks_58 : decode cX7_asks 58 = .ok (.getfield 77, 3) := dk_180 0 77 (dk_at dksX7_asks_2 12 rfl rfl)
theorem dX7_asks_61 : decode cX7_asks 61 = .ok (.getfield 81, 3) := dk_180 0 81 (dk_at dksX7_asks_2 15 rfl rfl)
theorem dX7_asks_64 : decode cX7_asks 64 = .ok (.iconst 2, 1) := dk_5 (dk_at dksX7_asks_2 18 rfl rfl)
theorem dX7_asks_65 : decode cX7_asks 65 = .ok (.aload_n 0, 1) := dk_42 (dk_at dksX7_asks_2 19 rfl rfl)
theorem dX7_asks_66 : decode cX7_asks 66 = .ok (.getfield 3, 3) := dk_180 0 3 (dk_at dksX7_asks_2 20 rfl rfl)
theorem dX7_asks_69 : decode cX7_asks 69 = .ok (.getfield 43, 3) := dk_180 0 43 (dk_at dksX7_asks_3 0 rfl rfl)
theorem dX7_asks_72 : decode cX7_asks 72 = .ok (.getfield 87, 3) := dk_180 0 87 (dk_at dksX7_asks_3 3 rfl rfl)
theorem dX7_asks_75 : decode cX7_asks 75 = .ok (.iload_n 2, 1) := dk_28 (dk_at dksX7_asks_3 6 rfl rfl)
theorem dX7_asks_76 : decode cX7_asks 76 = .ok (.invokeinterface 60 2, 5) := by decide +kernel
theorem dX7_asks_81 : decode cX7_asks 81 = .ok (.checkcast 89, 3) := dk_192 0 89 (dk_at dksX7_asks_3 12 rfl rfl)
theorem dX7_asks_84 : decode cX7_asks 84 = .ok (.getfield 94, 3) := dk_180 0 94 (dk_at dksX7_asks_3 15 rfl rfl)
theorem dX7_asks_87 : decode cX7_asks 87 = .ok (.i2l, 1) := dk_133 (dk_at dksX7_asks_3 18 rfl rfl)
theorem dX7_asks_88 : decode cX7_asks 88 = .ok (.lastore, 1) := dk_80 (dk_at dksX7_asks_3 19 rfl rfl)
theorem dX7_asks_89 : decode cX7_asks 89 = .ok (.aload_n 0, 1) := dk_42 (dk_at dksX7_asks_3 20 rfl rfl)
theorem dX7_asks_90 : decode cX7_asks 90 = .ok (.getfield 3, 3) := dk_180 0 3 (dk_at dksX7_asks_3 21 rfl rfl)
theorem dX7_asks_93 : decode cX7_asks 93 = .ok (.getfield 77, 3) := dk_180 0 77 (dk_at dksX7_asks_4 0 rfl rfl)
theorem dX7_asks_96 : decode cX7_asks 96 = .ok (.getfield 81, 3) := dk_180 0 81 (dk_at dksX7_asks_4 3 rfl rfl)
theorem dX7_asks_99 : decode cX7_asks 99 = .ok (.iconst 3, 1) := dk_6 (dk_at dksX7_asks_4 6 rfl rfl)
theorem dX7_asks_100 : decode cX7_asks 100 = .ok (.aload_n 0, 1) := dk_42 (dk_at dksX7_asks_4 7 rfl rfl)
theorem dX7_asks_101 : decode cX7_asks 101 = .ok (.getfield 30, 3) := dk_180 0 30 (dk_at dksX7_asks_4 8 rfl rfl)
theorem dX7_asks_104 : decode cX7_asks 104 = .ok (.iload_n 1, 1) := dk_27 (dk_at dksX7_asks_4 11 rfl rfl)
theorem dX7_asks_105 : decode cX7_asks 105 = .ok (.aaload, 1) := dk_50 (dk_at dksX7_asks_4 12 rfl rfl)
theorem dX7_asks_106 : decode cX7_asks 106 = .ok (.iload_n 2, 1) := dk_28 (dk_at dksX7_asks_4 13 rfl rfl)
theorem dX7_asks_107 : decode cX7_asks 107 = .ok (.iaload, 1) := dk_46 (dk_at dksX7_asks_4 14 rfl rfl)
theorem dX7_asks_108 : decode cX7_asks 108 = .ok (.i2l, 1) := dk_133 (dk_at dksX7_asks_4 15 rfl rfl)
theorem dX7_asks_109 : decode cX7_asks 109 = .ok (.lastore, 1) := dk_80 (dk_at dksX7_asks_4 16 rfl rfl)
theorem dX7_asks_110 : decode cX7_asks 110 = .ok (.aload_n 0, 1) := dk_42 (dk_at dksX7_asks_4 17 rfl rfl)
theorem dX7_asks_111 : decode cX7_asks 111 = .ok (.getfield 3, 3) := dk_180 0 3 (dk_at dksX7_asks_4 18 rfl rfl)
theorem dX7_asks_114 : decode cX7_asks 114 = .ok (.getfield 77, 3) := dk_180 0 77 (dk_at dksX7_asks_4 21 rfl rfl)
theorem dX7_asks_117 : decode cX7_asks 117 = .ok (.getfield 81, 3) := dk_180 0 81 (dk_at dksX7_asks_5 0 rfl rfl)
theorem dX7_asks_120 : decode cX7_asks 120 = .ok (.iconst 4, 1) := dk_7 (dk_at dksX7_asks_5 3 rfl rfl)
theorem dX7_asks_121 : decode cX7_asks 121 = .ok (.aload_n 0, 1) := dk_42 (dk_at dksX7_asks_5 4 rfl rfl)
theorem dX7_asks_122 : decode cX7_asks 122 = .ok (.getfield 36, 3) := dk_180 0 36 (dk_at dksX7_asks_5 5 rfl rfl)
theorem dX7_asks_125 : decode cX7_asks 125 = .ok (.i2l, 1) := dk_133 (dk_at dksX7_asks_5 8 rfl rfl)
theorem dX7_asks_126 : decode cX7_asks 126 = .ok (.lastore, 1) := dk_80 (dk_at dksX7_asks_5 9 rfl rfl)
theorem dX7_asks_127 : decode cX7_asks 127 = .ok (.return_, 1) := dk_177 (dk_at dksX7_asks_5 10 rfl rfl)
abbrev cX7_well : ByteArray := prog_18_method_7_code
def yX7_well : MethodName := ⟨RX7, "well", "(II)J"⟩
def dkwX7_well_2 : List UInt8 := [180, 0, 43, 180, 0, 111, 42, 180, 0, 3, 180, 0, 77, 182, 0, 115, 173]
abbrev dktX7_well_2 : List UInt8 := dkwX7_well_2 ++ []
def dkwX7_well_1 : List UInt8 := [185, 0, 60, 2, 0, 192, 0, 89, 180, 0, 94, 133, 173, 42, 27, 28, 182, 0, 101, 42, 180, 0, 3]
abbrev dktX7_well_1 : List UInt8 := dkwX7_well_1 ++ dktX7_well_2
def dkwX7_well_0 : List UInt8 := [42, 180, 0, 3, 180, 0, 43, 180, 0, 111, 199, 0, 27, 42, 180, 0, 3, 180, 0, 43, 180, 0, 87, 28]
abbrev dktX7_well_0 : List UInt8 := dkwX7_well_0 ++ dktX7_well_1
theorem dksX7_well_0 : cX7_well.data.toList.drop 0 = dktX7_well_0 := by decide +kernel
theorem dksX7_well_1 : cX7_well.data.toList.drop 24 = dktX7_well_1 := dk_seg dksX7_well_0 24 rfl rfl
theorem dksX7_well_2 : cX7_well.data.toList.drop 47 = dktX7_well_2 := dk_seg dksX7_well_1 23 rfl rfl
theorem dX7_well_0 : decode cX7_well 0 = .ok (.aload_n 0, 1) := dk_42 (dk_at dksX7_well_0 0 rfl rfl)
theorem dX7_well_1 : decode cX7_well 1 = .ok (.getfield 3, 3) := dk_180 0 3 (dk_at dksX7_well_0 1 rfl rfl)
theorem dX7_well_4 : decode cX7_well 4 = .ok (.getfield 43, 3) := dk_180 0 43 (dk_at dksX7_well_0 4 rfl rfl)
theorem dX7_well_7 : decode cX7_well 7 = .ok (.getfield 111, 3) := dk_180 0 111 (dk_at dksX7_well_0 7 rfl rfl)
theorem dX7_well_10 : decode cX7_well 10 = .ok (.ifnonnull 27, 3) := dk_199 0 27 (dk_at dksX7_well_0 10 rfl rfl)
theorem dX7_well_13 : decode cX7_well 13 = .ok (.aload_n 0, 1) := dk_42 (dk_at dksX7_well_0 13 rfl rfl)
theorem dX7_well_14 : decode cX7_well 14 = .ok (.getfield 3, 3) := dk_180 0 3 (dk_at dksX7_well_0 14 rfl rfl)
theorem dX7_well_17 : decode cX7_well 17 = .ok (.getfield 43, 3) := dk_180 0 43 (dk_at dksX7_well_0 17 rfl rfl)
theorem dX7_well_20 : decode cX7_well 20 = .ok (.getfield 87, 3) := dk_180 0 87 (dk_at dksX7_well_0 20 rfl rfl)
theorem dX7_well_23 : decode cX7_well 23 = .ok (.iload_n 2, 1) := dk_28 (dk_at dksX7_well_0 23 rfl rfl)
theorem dX7_well_24 : decode cX7_well 24 = .ok (.invokeinterface 60 2, 5) := by decide +kernel
theorem dX7_well_29 : decode cX7_well 29 = .ok (.checkcast 89, 3) := dk_192 0 89 (dk_at dksX7_well_1 5 rfl rfl)
theorem dX7_well_32 : decode cX7_well 32 = .ok (.getfield 94, 3) := dk_180 0 94 (dk_at dksX7_well_1 8 rfl rfl)
theorem dX7_well_35 : decode cX7_well 35 = .ok (.i2l, 1) := dk_133 (dk_at dksX7_well_1 11 rfl rfl)
theorem dX7_well_36 : decode cX7_well 36 = .ok (.lreturn, 1) := dk_173 (dk_at dksX7_well_1 12 rfl rfl)
theorem dX7_well_37 : decode cX7_well 37 = .ok (.aload_n 0, 1) := dk_42 (dk_at dksX7_well_1 13 rfl rfl)
theorem dX7_well_38 : decode cX7_well 38 = .ok (.iload_n 1, 1) := dk_27 (dk_at dksX7_well_1 14 rfl rfl)
theorem dX7_well_39 : decode cX7_well 39 = .ok (.iload_n 2, 1) := dk_28 (dk_at dksX7_well_1 15 rfl rfl)
theorem dX7_well_40 : decode cX7_well 40 = .ok (.invokevirtual 101, 3) := dk_182 0 101 (dk_at dksX7_well_1 16 rfl rfl)
theorem dX7_well_43 : decode cX7_well 43 = .ok (.aload_n 0, 1) := dk_42 (dk_at dksX7_well_1 19 rfl rfl)
theorem dX7_well_44 : decode cX7_well 44 = .ok (.getfield 3, 3) := dk_180 0 3 (dk_at dksX7_well_1 20 rfl rfl)
theorem dX7_well_47 : decode cX7_well 47 = .ok (.getfield 43, 3) := dk_180 0 43 (dk_at dksX7_well_2 0 rfl rfl)
theorem dX7_well_50 : decode cX7_well 50 = .ok (.getfield 111, 3) := dk_180 0 111 (dk_at dksX7_well_2 3 rfl rfl)
theorem dX7_well_53 : decode cX7_well 53 = .ok (.aload_n 0, 1) := dk_42 (dk_at dksX7_well_2 6 rfl rfl)
theorem dX7_well_54 : decode cX7_well 54 = .ok (.getfield 3, 3) := dk_180 0 3 (dk_at dksX7_well_2 7 rfl rfl)
theorem dX7_well_57 : decode cX7_well 57 = .ok (.getfield 77, 3) := dk_180 0 77 (dk_at dksX7_well_2 10 rfl rfl)
theorem dX7_well_60 : decode cX7_well 60 = .ok (.invokevirtual 115, 3) := dk_182 0 115 (dk_at dksX7_well_2 13 rfl rfl)
theorem dX7_well_63 : decode cX7_well 63 = .ok (.lreturn, 1) := dk_173 (dk_at dksX7_well_2 16 rfl rfl)
abbrev cX7_sack : ByteArray := prog_18_method_4_code
def yX7_sack : MethodName := ⟨RX7, "sack", "()I"⟩
def dkwX7_sack_0 : List UInt8 := [4, 42, 180, 0, 3, 182, 0, 74, 120, 4, 100, 42, 180, 0, 52, 2, 130, 126, 172]
abbrev dktX7_sack_0 : List UInt8 := dkwX7_sack_0 ++ []
theorem dksX7_sack_0 : cX7_sack.data.toList.drop 0 = dktX7_sack_0 := by decide +kernel
theorem dX7_sack_0 : decode cX7_sack 0 = .ok (.iconst 1, 1) := dk_4 (dk_at dksX7_sack_0 0 rfl rfl)
theorem dX7_sack_1 : decode cX7_sack 1 = .ok (.aload_n 0, 1) := dk_42 (dk_at dksX7_sack_0 1 rfl rfl)
theorem dX7_sack_2 : decode cX7_sack 2 = .ok (.getfield 3, 3) := dk_180 0 3 (dk_at dksX7_sack_0 2 rfl rfl)
theorem dX7_sack_5 : decode cX7_sack 5 = .ok (.invokevirtual 74, 3) := dk_182 0 74 (dk_at dksX7_sack_0 5 rfl rfl)
theorem dX7_sack_8 : decode cX7_sack 8 = .ok (.ishl, 1) := dk_120 (dk_at dksX7_sack_0 8 rfl rfl)
theorem dX7_sack_9 : decode cX7_sack 9 = .ok (.iconst 1, 1) := dk_4 (dk_at dksX7_sack_0 9 rfl rfl)
theorem dX7_sack_10 : decode cX7_sack 10 = .ok (.isub, 1) := dk_100 (dk_at dksX7_sack_0 10 rfl rfl)
theorem dX7_sack_11 : decode cX7_sack 11 = .ok (.aload_n 0, 1) := dk_42 (dk_at dksX7_sack_0 11 rfl rfl)
theorem dX7_sack_12 : decode cX7_sack 12 = .ok (.getfield 52, 3) := dk_180 0 52 (dk_at dksX7_sack_0 12 rfl rfl)
theorem dX7_sack_15 : decode cX7_sack 15 = .ok (.iconst (-1), 1) := dk_2 (dk_at dksX7_sack_0 15 rfl rfl)
theorem dX7_sack_16 : decode cX7_sack 16 = .ok (.ixor, 1) := dk_130 (dk_at dksX7_sack_0 16 rfl rfl)
theorem dX7_sack_17 : decode cX7_sack 17 = .ok (.iand, 1) := dk_126 (dk_at dksX7_sack_0 17 rfl rfl)
theorem dX7_sack_18 : decode cX7_sack 18 = .ok (.ireturn, 1) := dk_172 (dk_at dksX7_sack_0 18 rfl rfl)
abbrev cX7_copy : ByteArray := prog_18_method_3_code
def yX7_copy : MethodName := ⟨RX7, "copy", "(LVerbAtDusk$State;)LVerbAtDusk$State;"⟩
def dkwX7_copy_6 : List UInt8 := [167, 255, 232, 132, 2, 1, 167, 255, 216, 42, 176]
abbrev dktX7_copy_6 : List UInt8 := dkwX7_copy_6 ++ []
def dkwX7_copy_5 : List UInt8 := [162, 0, 25, 42, 180, 0, 33, 28, 50, 29, 43, 180, 0, 33, 28, 50, 29, 46, 79, 132, 3, 1]
abbrev dktX7_copy_5 : List UInt8 := dkwX7_copy_5 ++ dktX7_copy_6
def dkwX7_copy_4 : List UInt8 := [167, 255, 231, 132, 2, 1, 167, 255, 181, 3, 61, 28, 42, 180, 0, 40, 162, 0, 38, 3, 62, 29, 6]
abbrev dktX7_copy_4 : List UInt8 := dkwX7_copy_4 ++ dktX7_copy_5
def dkwX7_copy_3 : List UInt8 := [16, 7, 162, 0, 25, 42, 180, 0, 30, 28, 50, 29, 43, 180, 0, 30, 28, 50, 29, 46, 79, 132, 3, 1]
abbrev dktX7_copy_3 : List UInt8 := dkwX7_copy_3 ++ dktX7_copy_4
def dkwX7_copy_2 : List UInt8 := [28, 43, 180, 0, 19, 28, 46, 79, 42, 180, 0, 22, 28, 43, 180, 0, 22, 28, 46, 79, 3, 62, 29]
abbrev dktX7_copy_2 : List UInt8 := dkwX7_copy_2 ++ dktX7_copy_3
def dkwX7_copy_1 : List UInt8 := [3, 61, 28, 16, 6, 162, 0, 75, 42, 180, 0, 15, 28, 43, 180, 0, 15, 28, 46, 79, 42, 180, 0, 19]
abbrev dktX7_copy_1 : List UInt8 := dkwX7_copy_1 ++ dktX7_copy_2
def dkwX7_copy_0 : List UInt8 := [42, 43, 180, 0, 36, 181, 0, 36, 42, 43, 180, 0, 40, 181, 0, 40, 42, 43, 180, 0, 52, 181, 0, 52]
abbrev dktX7_copy_0 : List UInt8 := dkwX7_copy_0 ++ dktX7_copy_1
theorem dksX7_copy_0 : cX7_copy.data.toList.drop 0 = dktX7_copy_0 := by decide +kernel
theorem dksX7_copy_1 : cX7_copy.data.toList.drop 24 = dktX7_copy_1 := dk_seg dksX7_copy_0 24 rfl rfl
theorem dksX7_copy_2 : cX7_copy.data.toList.drop 48 = dktX7_copy_2 := dk_seg dksX7_copy_1 24 rfl rfl
theorem dksX7_copy_3 : cX7_copy.data.toList.drop 71 = dktX7_copy_3 := dk_seg dksX7_copy_2 23 rfl rfl
theorem dksX7_copy_4 : cX7_copy.data.toList.drop 95 = dktX7_copy_4 := dk_seg dksX7_copy_3 24 rfl rfl
theorem dksX7_copy_5 : cX7_copy.data.toList.drop 118 = dktX7_copy_5 := dk_seg dksX7_copy_4 23 rfl rfl
theorem dksX7_copy_6 : cX7_copy.data.toList.drop 140 = dktX7_copy_6 := dk_seg dksX7_copy_5 22 rfl rfl
theorem dX7_copy_0 : decode cX7_copy 0 = .ok (.aload_n 0, 1) := dk_42 (dk_at dksX7_copy_0 0 rfl rfl)
theorem dX7_copy_1 : decode cX7_copy 1 = .ok (.aload_n 1, 1) := dk_43 (dk_at dksX7_copy_0 1 rfl rfl)
theorem dX7_copy_2 : decode cX7_copy 2 = .ok (.getfield 36, 3) := dk_180 0 36 (dk_at dksX7_copy_0 2 rfl rfl)
theorem dX7_copy_5 : decode cX7_copy 5 = .ok (.putfield 36, 3) := dk_181 0 36 (dk_at dksX7_copy_0 5 rfl rfl)
theorem dX7_copy_8 : decode cX7_copy 8 = .ok (.aload_n 0, 1) := dk_42 (dk_at dksX7_copy_0 8 rfl rfl)
theorem dX7_copy_9 : decode cX7_copy 9 = .ok (.aload_n 1, 1) := dk_43 (dk_at dksX7_copy_0 9 rfl rfl)
theorem dX7_copy_10 : decode cX7_copy 10 = .ok (.getfield 40, 3) := dk_180 0 40 (dk_at dksX7_copy_0 10 rfl rfl)
theorem dX7_copy_13 : decode cX7_copy 13 = .ok (.putfield 40, 3) := dk_181 0 40 (dk_at dksX7_copy_0 13 rfl rfl)
theorem dX7_copy_16 : decode cX7_copy 16 = .ok (.aload_n 0, 1) := dk_42 (dk_at dksX7_copy_0 16 rfl rfl)
theorem dX7_copy_17 : decode cX7_copy 17 = .ok (.aload_n 1, 1) := dk_43 (dk_at dksX7_copy_0 17 rfl rfl)
theorem dX7_copy_18 : decode cX7_copy 18 = .ok (.getfield 52, 3) := dk_180 0 52 (dk_at dksX7_copy_0 18 rfl rfl)
theorem dX7_copy_21 : decode cX7_copy 21 = .ok (.putfield 52, 3) := dk_181 0 52 (dk_at dksX7_copy_0 21 rfl rfl)
theorem dX7_copy_24 : decode cX7_copy 24 = .ok (.iconst 0, 1) := dk_3 (dk_at dksX7_copy_1 0 rfl rfl)
theorem dX7_copy_25 : decode cX7_copy 25 = .ok (.istore_n 2, 1) := dk_61 (dk_at dksX7_copy_1 1 rfl rfl)
theorem dX7_copy_26 : decode cX7_copy 26 = .ok (.iload_n 2, 1) := dk_28 (dk_at dksX7_copy_1 2 rfl rfl)
theorem dX7_copy_27 : decode cX7_copy 27 = .ok (.bipush 6, 2) := dk_16 6 (dk_at dksX7_copy_1 3 rfl rfl)
theorem dX7_copy_29 : decode cX7_copy 29 = .ok (.if_icmp .ge 75, 3) := dk_162 0 75 (dk_at dksX7_copy_1 5 rfl rfl)
theorem dX7_copy_32 : decode cX7_copy 32 = .ok (.aload_n 0, 1) := dk_42 (dk_at dksX7_copy_1 8 rfl rfl)
theorem dX7_copy_33 : decode cX7_copy 33 = .ok (.getfield 15, 3) := dk_180 0 15 (dk_at dksX7_copy_1 9 rfl rfl)
theorem dX7_copy_36 : decode cX7_copy 36 = .ok (.iload_n 2, 1) := dk_28 (dk_at dksX7_copy_1 12 rfl rfl)
theorem dX7_copy_37 : decode cX7_copy 37 = .ok (.aload_n 1, 1) := dk_43 (dk_at dksX7_copy_1 13 rfl rfl)
theorem dX7_copy_38 : decode cX7_copy 38 = .ok (.getfield 15, 3) := dk_180 0 15 (dk_at dksX7_copy_1 14 rfl rfl)
theorem dX7_copy_41 : decode cX7_copy 41 = .ok (.iload_n 2, 1) := dk_28 (dk_at dksX7_copy_1 17 rfl rfl)
theorem dX7_copy_42 : decode cX7_copy 42 = .ok (.iaload, 1) := dk_46 (dk_at dksX7_copy_1 18 rfl rfl)
theorem dX7_copy_43 : decode cX7_copy 43 = .ok (.iastore, 1) := dk_79 (dk_at dksX7_copy_1 19 rfl rfl)
theorem dX7_copy_44 : decode cX7_copy 44 = .ok (.aload_n 0, 1) := dk_42 (dk_at dksX7_copy_1 20 rfl rfl)
theorem dX7_copy_45 : decode cX7_copy 45 = .ok (.getfield 19, 3) := dk_180 0 19 (dk_at dksX7_copy_1 21 rfl rfl)
theorem dX7_copy_48 : decode cX7_copy 48 = .ok (.iload_n 2, 1) := dk_28 (dk_at dksX7_copy_2 0 rfl rfl)
theorem dX7_copy_49 : decode cX7_copy 49 = .ok (.aload_n 1, 1) := dk_43 (dk_at dksX7_copy_2 1 rfl rfl)
theorem dX7_copy_50 : decode cX7_copy 50 = .ok (.getfield 19, 3) := dk_180 0 19 (dk_at dksX7_copy_2 2 rfl rfl)
theorem dX7_copy_53 : decode cX7_copy 53 = .ok (.iload_n 2, 1) := dk_28 (dk_at dksX7_copy_2 5 rfl rfl)
theorem dX7_copy_54 : decode cX7_copy 54 = .ok (.iaload, 1) := dk_46 (dk_at dksX7_copy_2 6 rfl rfl)
theorem dX7_copy_55 : decode cX7_copy 55 = .ok (.iastore, 1) := dk_79 (dk_at dksX7_copy_2 7 rfl rfl)
theorem dX7_copy_56 : decode cX7_copy 56 = .ok (.aload_n 0, 1) := dk_42 (dk_at dksX7_copy_2 8 rfl rfl)
theorem dX7_copy_57 : decode cX7_copy 57 = .ok (.getfield 22, 3) := dk_180 0 22 (dk_at dksX7_copy_2 9 rfl rfl)
theorem dX7_copy_60 : decode cX7_copy 60 = .ok (.iload_n 2, 1) := dk_28 (dk_at dksX7_copy_2 12 rfl rfl)
theorem dX7_copy_61 : decode cX7_copy 61 = .ok (.aload_n 1, 1) := dk_43 (dk_at dksX7_copy_2 13 rfl rfl)
theorem dX7_copy_62 : decode cX7_copy 62 = .ok (.getfield 22, 3) := dk_180 0 22 (dk_at dksX7_copy_2 14 rfl rfl)
theorem dX7_copy_65 : decode cX7_copy 65 = .ok (.iload_n 2, 1) := dk_28 (dk_at dksX7_copy_2 17 rfl rfl)
theorem dX7_copy_66 : decode cX7_copy 66 = .ok (.iaload, 1) := dk_46 (dk_at dksX7_copy_2 18 rfl rfl)
theorem dX7_copy_67 : decode cX7_copy 67 = .ok (.iastore, 1) := dk_79 (dk_at dksX7_copy_2 19 rfl rfl)
theorem dX7_copy_68 : decode cX7_copy 68 = .ok (.iconst 0, 1) := dk_3 (dk_at dksX7_copy_2 20 rfl rfl)
theorem dX7_copy_69 : decode cX7_copy 69 = .ok (.istore_n 3, 1) := dk_62 (dk_at dksX7_copy_2 21 rfl rfl)
theorem dX7_copy_70 : decode cX7_copy 70 = .ok (.iload_n 3, 1) := dk_29 (dk_at dksX7_copy_2 22 rfl rfl)
theorem dX7_copy_71 : decode cX7_copy 71 = .ok (.bipush 7, 2) := dk_16 7 (dk_at dksX7_copy_3 0 rfl rfl)
theorem dX7_copy_73 : decode cX7_copy 73 = .ok (.if_icmp .ge 25, 3) := dk_162 0 25 (dk_at dksX7_copy_3 2 rfl rfl)
theorem dX7_copy_76 : decode cX7_copy 76 = .ok (.aload_n 0, 1) := dk_42 (dk_at dksX7_copy_3 5 rfl rfl)
theorem dX7_copy_77 : decode cX7_copy 77 = .ok (.getfield 30, 3) := dk_180 0 30 (dk_at dksX7_copy_3 6 rfl rfl)
theorem dX7_copy_80 : decode cX7_copy 80 = .ok (.iload_n 2, 1) := dk_28 (dk_at dksX7_copy_3 9 rfl rfl)
theorem dX7_copy_81 : decode cX7_copy 81 = .ok (.aaload, 1) := dk_50 (dk_at dksX7_copy_3 10 rfl rfl)
theorem dX7_copy_82 : decode cX7_copy 82 = .ok (.iload_n 3, 1) := dk_29 (dk_at dksX7_copy_3 11 rfl rfl)
theorem dX7_copy_83 : decode cX7_copy 83 = .ok (.aload_n 1, 1) := dk_43 (dk_at dksX7_copy_3 12 rfl rfl)
theorem dX7_copy_84 : decode cX7_copy 84 = .ok (.getfield 30, 3) := dk_180 0 30 (dk_at dksX7_copy_3 13 rfl rfl)
theorem dX7_copy_87 : decode cX7_copy 87 = .ok (.iload_n 2, 1) := dk_28 (dk_at dksX7_copy_3 16 rfl rfl)
theorem dX7_copy_88 : decode cX7_copy 88 = .ok (.aaload, 1) := dk_50 (dk_at dksX7_copy_3 17 rfl rfl)
theorem dX7_copy_89 : decode cX7_copy 89 = .ok (.iload_n 3, 1) := dk_29 (dk_at dksX7_copy_3 18 rfl rfl)
theorem dX7_copy_90 : decode cX7_copy 90 = .ok (.iaload, 1) := dk_46 (dk_at dksX7_copy_3 19 rfl rfl)
theorem dX7_copy_91 : decode cX7_copy 91 = .ok (.iastore, 1) := dk_79 (dk_at dksX7_copy_3 20 rfl rfl)
theorem dX7_copy_92 : decode cX7_copy 92 = .ok (.iinc 3 1, 3) := dk_132 3 1 (dk_at dksX7_copy_3 21 rfl rfl)
theorem dX7_copy_95 : decode cX7_copy 95 = .ok (.goto (-25), 3) := dk_167 255 231 (dk_at dksX7_copy_4 0 rfl rfl)
theorem dX7_copy_98 : decode cX7_copy 98 = .ok (.iinc 2 1, 3) := dk_132 2 1 (dk_at dksX7_copy_4 3 rfl rfl)
theorem dX7_copy_101 : decode cX7_copy 101 = .ok (.goto (-75), 3) := dk_167 255 181 (dk_at dksX7_copy_4 6 rfl rfl)
theorem dX7_copy_104 : decode cX7_copy 104 = .ok (.iconst 0, 1) := dk_3 (dk_at dksX7_copy_4 9 rfl rfl)
theorem dX7_copy_105 : decode cX7_copy 105 = .ok (.istore_n 2, 1) := dk_61 (dk_at dksX7_copy_4 10 rfl rfl)
theorem dX7_copy_106 : decode cX7_copy 106 = .ok (.iload_n 2, 1) := dk_28 (dk_at dksX7_copy_4 11 rfl rfl)
theorem dX7_copy_107 : decode cX7_copy 107 = .ok (.aload_n 0, 1) := dk_42 (dk_at dksX7_copy_4 12 rfl rfl)
theorem dX7_copy_108 : decode cX7_copy 108 = .ok (.getfield 40, 3) := dk_180 0 40 (dk_at dksX7_copy_4 13 rfl rfl)
theorem dX7_copy_111 : decode cX7_copy 111 = .ok (.if_icmp .ge 38, 3) := dk_162 0 38 (dk_at dksX7_copy_4 16 rfl rfl)
theorem dX7_copy_114 : decode cX7_copy 114 = .ok (.iconst 0, 1) := dk_3 (dk_at dksX7_copy_4 19 rfl rfl)
theorem dX7_copy_115 : decode cX7_copy 115 = .ok (.istore_n 3, 1) := dk_62 (dk_at dksX7_copy_4 20 rfl rfl)
theorem dX7_copy_116 : decode cX7_copy 116 = .ok (.iload_n 3, 1) := dk_29 (dk_at dksX7_copy_4 21 rfl rfl)
theorem dX7_copy_117 : decode cX7_copy 117 = .ok (.iconst 3, 1) := dk_6 (dk_at dksX7_copy_4 22 rfl rfl)
theorem dX7_copy_118 : decode cX7_copy 118 = .ok (.if_icmp .ge 25, 3) := dk_162 0 25 (dk_at dksX7_copy_5 0 rfl rfl)
theorem dX7_copy_121 : decode cX7_copy 121 = .ok (.aload_n 0, 1) := dk_42 (dk_at dksX7_copy_5 3 rfl rfl)
theorem dX7_copy_122 : decode cX7_copy 122 = .ok (.getfield 33, 3) := dk_180 0 33 (dk_at dksX7_copy_5 4 rfl rfl)
theorem dX7_copy_125 : decode cX7_copy 125 = .ok (.iload_n 2, 1) := dk_28 (dk_at dksX7_copy_5 7 rfl rfl)
theorem dX7_copy_126 : decode cX7_copy 126 = .ok (.aaload, 1) := dk_50 (dk_at dksX7_copy_5 8 rfl rfl)
theorem dX7_copy_127 : decode cX7_copy 127 = .ok (.iload_n 3, 1) := dk_29 (dk_at dksX7_copy_5 9 rfl rfl)
theorem dX7_copy_128 : decode cX7_copy 128 = .ok (.aload_n 1, 1) := dk_43 (dk_at dksX7_copy_5 10 rfl rfl)
theorem dX7_copy_129 : decode cX7_copy 129 = .ok (.getfield 33, 3) := dk_180 0 33 (dk_at dksX7_copy_5 11 rfl rfl)
theorem dX7_copy_132 : decode cX7_copy 132 = .ok (.iload_n 2, 1) := dk_28 (dk_at dksX7_copy_5 14 rfl rfl)
theorem dX7_copy_133 : decode cX7_copy 133 = .ok (.aaload, 1) := dk_50 (dk_at dksX7_copy_5 15 rfl rfl)
theorem dX7_copy_134 : decode cX7_copy 134 = .ok (.iload_n 3, 1) := dk_29 (dk_at dksX7_copy_5 16 rfl rfl)
theorem dX7_copy_135 : decode cX7_copy 135 = .ok (.iaload, 1) := dk_46 (dk_at dksX7_copy_5 17 rfl rfl)
theorem dX7_copy_136 : decode cX7_copy 136 = .ok (.iastore, 1) := dk_79 (dk_at dksX7_copy_5 18 rfl rfl)
theorem dX7_copy_137 : decode cX7_copy 137 = .ok (.iinc 3 1, 3) := dk_132 3 1 (dk_at dksX7_copy_5 19 rfl rfl)
theorem dX7_copy_140 : decode cX7_copy 140 = .ok (.goto (-24), 3) := dk_167 255 232 (dk_at dksX7_copy_6 0 rfl rfl)
theorem dX7_copy_143 : decode cX7_copy 143 = .ok (.iinc 2 1, 3) := dk_132 2 1 (dk_at dksX7_copy_6 3 rfl rfl)
theorem dX7_copy_146 : decode cX7_copy 146 = .ok (.goto (-40), 3) := dk_167 255 216 (dk_at dksX7_copy_6 6 rfl rfl)
theorem dX7_copy_149 : decode cX7_copy 149 = .ok (.aload_n 0, 1) := dk_42 (dk_at dksX7_copy_6 9 rfl rfl)
theorem dX7_copy_150 : decode cX7_copy 150 = .ok (.areturn, 1) := dk_176 (dk_at dksX7_copy_6 10 rfl rfl)
abbrev cX7_passes : ByteArray := prog_18_method_10_code
def yX7_passes : MethodName := ⟨RX7, "passes", "()I"⟩
def dkwX7_passes_4 : List UInt8 := [132, 4, 1, 167, 255, 195, 42, 89, 180, 0, 36, 4, 96, 181, 0, 36, 29, 172]
abbrev dktX7_passes_4 : List UInt8 := dkwX7_passes_4 ++ []
def dkwX7_passes_3 : List UInt8 := [42, 21, 4, 42, 180, 0, 3, 180, 0, 154, 180, 0, 171, 21, 4, 46, 182, 0, 174, 132, 3, 1]
abbrev dktX7_passes_3 : List UInt8 := dkwX7_passes_3 ++ dktX7_passes_4
def dkwX7_passes_2 : List UInt8 := [42, 180, 0, 25, 21, 4, 2, 79, 28, 153, 0, 37, 27, 21, 4, 184, 0, 167, 153, 0, 6, 167, 0, 25]
abbrev dktX7_passes_2 : List UInt8 := dkwX7_passes_2 ++ dktX7_passes_3
def dkwX7_passes_1 : List UInt8 := [182, 0, 158, 180, 0, 163, 61, 3, 62, 3, 54, 4, 21, 4, 42, 180, 0, 3, 182, 0, 53, 162, 0, 55]
abbrev dktX7_passes_1 : List UInt8 := dkwX7_passes_1 ++ dktX7_passes_2
def dkwX7_passes_0 : List UInt8 := [42, 180, 0, 3, 180, 0, 141, 42, 182, 0, 145, 182, 0, 151, 60, 42, 180, 0, 3, 180, 0, 154, 42]
abbrev dktX7_passes_0 : List UInt8 := dkwX7_passes_0 ++ dktX7_passes_1
theorem dksX7_passes_0 : cX7_passes.data.toList.drop 0 = dktX7_passes_0 := by decide +kernel
theorem dksX7_passes_1 : cX7_passes.data.toList.drop 23 = dktX7_passes_1 := dk_seg dksX7_passes_0 23 rfl rfl
theorem dksX7_passes_2 : cX7_passes.data.toList.drop 47 = dktX7_passes_2 := dk_seg dksX7_passes_1 24 rfl rfl
theorem dksX7_passes_3 : cX7_passes.data.toList.drop 71 = dktX7_passes_3 := dk_seg dksX7_passes_2 24 rfl rfl
theorem dksX7_passes_4 : cX7_passes.data.toList.drop 93 = dktX7_passes_4 := dk_seg dksX7_passes_3 22 rfl rfl
theorem dX7_passes_0 : decode cX7_passes 0 = .ok (.aload_n 0, 1) := dk_42 (dk_at dksX7_passes_0 0 rfl rfl)
theorem dX7_passes_1 : decode cX7_passes 1 = .ok (.getfield 3, 3) := dk_180 0 3 (dk_at dksX7_passes_0 1 rfl rfl)
theorem dX7_passes_4 : decode cX7_passes 4 = .ok (.getfield 141, 3) := dk_180 0 141 (dk_at dksX7_passes_0 4 rfl rfl)
theorem dX7_passes_7 : decode cX7_passes 7 = .ok (.aload_n 0, 1) := dk_42 (dk_at dksX7_passes_0 7 rfl rfl)
theorem dX7_passes_8 : decode cX7_passes 8 = .ok (.invokevirtual 145, 3) := dk_182 0 145 (dk_at dksX7_passes_0 8 rfl rfl)
theorem dX7_passes_11 : decode cX7_passes 11 = .ok (.invokevirtual 151, 3) := dk_182 0 151 (dk_at dksX7_passes_0 11 rfl rfl)
theorem dX7_passes_14 : decode cX7_passes 14 = .ok (.istore_n 1, 1) := dk_60 (dk_at dksX7_passes_0 14 rfl rfl)
theorem dX7_passes_15 : decode cX7_passes 15 = .ok (.aload_n 0, 1) := dk_42 (dk_at dksX7_passes_0 15 rfl rfl)
theorem dX7_passes_16 : decode cX7_passes 16 = .ok (.getfield 3, 3) := dk_180 0 3 (dk_at dksX7_passes_0 16 rfl rfl)
theorem dX7_passes_19 : decode cX7_passes 19 = .ok (.getfield 154, 3) := dk_180 0 154 (dk_at dksX7_passes_0 19 rfl rfl)
theorem dX7_passes_22 : decode cX7_passes 22 = .ok (.aload_n 0, 1) := dk_42 (dk_at dksX7_passes_0 22 rfl rfl)
theorem dX7_passes_23 : decode cX7_passes 23 = .ok (.invokevirtual 158, 3) := dk_182 0 158 (dk_at dksX7_passes_1 0 rfl rfl)
theorem dX7_passes_26 : decode cX7_passes 26 = .ok (.getfield 163, 3) := dk_180 0 163 (dk_at dksX7_passes_1 3 rfl rfl)
theorem dX7_passes_29 : decode cX7_passes 29 = .ok (.istore_n 2, 1) := dk_61 (dk_at dksX7_passes_1 6 rfl rfl)
theorem dX7_passes_30 : decode cX7_passes 30 = .ok (.iconst 0, 1) := dk_3 (dk_at dksX7_passes_1 7 rfl rfl)
theorem dX7_passes_31 : decode cX7_passes 31 = .ok (.istore_n 3, 1) := dk_62 (dk_at dksX7_passes_1 8 rfl rfl)
theorem dX7_passes_32 : decode cX7_passes 32 = .ok (.iconst 0, 1) := dk_3 (dk_at dksX7_passes_1 9 rfl rfl)
theorem dX7_passes_33 : decode cX7_passes 33 = .ok (.istore 4, 2) := dk_54 4 (dk_at dksX7_passes_1 10 rfl rfl)
theorem dX7_passes_35 : decode cX7_passes 35 = .ok (.iload 4, 2) := dk_21 4 (dk_at dksX7_passes_1 12 rfl rfl)
theorem dX7_passes_37 : decode cX7_passes 37 = .ok (.aload_n 0, 1) := dk_42 (dk_at dksX7_passes_1 14 rfl rfl)
theorem dX7_passes_38 : decode cX7_passes 38 = .ok (.getfield 3, 3) := dk_180 0 3 (dk_at dksX7_passes_1 15 rfl rfl)
theorem dX7_passes_41 : decode cX7_passes 41 = .ok (.invokevirtual 53, 3) := dk_182 0 53 (dk_at dksX7_passes_1 18 rfl rfl)
theorem dX7_passes_44 : decode cX7_passes 44 = .ok (.if_icmp .ge 55, 3) := dk_162 0 55 (dk_at dksX7_passes_1 21 rfl rfl)
theorem dX7_passes_47 : decode cX7_passes 47 = .ok (.aload_n 0, 1) := dk_42 (dk_at dksX7_passes_2 0 rfl rfl)
theorem dX7_passes_48 : decode cX7_passes 48 = .ok (.getfield 25, 3) := dk_180 0 25 (dk_at dksX7_passes_2 1 rfl rfl)
theorem dX7_passes_51 : decode cX7_passes 51 = .ok (.iload 4, 2) := dk_21 4 (dk_at dksX7_passes_2 4 rfl rfl)
theorem dX7_passes_53 : decode cX7_passes 53 = .ok (.iconst (-1), 1) := dk_2 (dk_at dksX7_passes_2 6 rfl rfl)
theorem dX7_passes_54 : decode cX7_passes 54 = .ok (.iastore, 1) := dk_79 (dk_at dksX7_passes_2 7 rfl rfl)
theorem dX7_passes_55 : decode cX7_passes 55 = .ok (.iload_n 2, 1) := dk_28 (dk_at dksX7_passes_2 8 rfl rfl)
theorem dX7_passes_56 : decode cX7_passes 56 = .ok (.ifCond .eq 37, 3) := dk_153 0 37 (dk_at dksX7_passes_2 9 rfl rfl)
theorem dX7_passes_59 : decode cX7_passes 59 = .ok (.iload_n 1, 1) := dk_27 (dk_at dksX7_passes_2 12 rfl rfl)
theorem dX7_passes_60 : decode cX7_passes 60 = .ok (.iload 4, 2) := dk_21 4 (dk_at dksX7_passes_2 13 rfl rfl)
theorem dX7_passes_62 : decode cX7_passes 62 = .ok (.invokestatic 167, 3) := dk_184 0 167 (dk_at dksX7_passes_2 15 rfl rfl)
theorem dX7_passes_65 : decode cX7_passes 65 = .ok (.ifCond .eq 6, 3) := dk_153 0 6 (dk_at dksX7_passes_2 18 rfl rfl)
theorem dX7_passes_68 : decode cX7_passes 68 = .ok (.goto 25, 3) := dk_167 0 25 (dk_at dksX7_passes_2 21 rfl rfl)
theorem dX7_passes_71 : decode cX7_passes 71 = .ok (.aload_n 0, 1) := dk_42 (dk_at dksX7_passes_3 0 rfl rfl)
theorem dX7_passes_72 : decode cX7_passes 72 = .ok (.iload 4, 2) := dk_21 4 (dk_at dksX7_passes_3 1 rfl rfl)
theorem dX7_passes_74 : decode cX7_passes 74 = .ok (.aload_n 0, 1) := dk_42 (dk_at dksX7_passes_3 3 rfl rfl)
theorem dX7_passes_75 : decode cX7_passes 75 = .ok (.getfield 3, 3) := dk_180 0 3 (dk_at dksX7_passes_3 4 rfl rfl)
theorem dX7_passes_78 : decode cX7_passes 78 = .ok (.getfield 154, 3) := dk_180 0 154 (dk_at dksX7_passes_3 7 rfl rfl)
theorem dX7_passes_81 : decode cX7_passes 81 = .ok (.getfield 171, 3) := dk_180 0 171 (dk_at dksX7_passes_3 10 rfl rfl)
theorem dX7_passes_84 : decode cX7_passes 84 = .ok (.iload 4, 2) := dk_21 4 (dk_at dksX7_passes_3 13 rfl rfl)
theorem dX7_passes_86 : decode cX7_passes 86 = .ok (.iaload, 1) := dk_46 (dk_at dksX7_passes_3 15 rfl rfl)
theorem dX7_passes_87 : decode cX7_passes 87 = .ok (.invokevirtual 174, 3) := dk_182 0 174 (dk_at dksX7_passes_3 16 rfl rfl)
theorem dX7_passes_90 : decode cX7_passes 90 = .ok (.iinc 3 1, 3) := dk_132 3 1 (dk_at dksX7_passes_3 19 rfl rfl)
theorem dX7_passes_93 : decode cX7_passes 93 = .ok (.iinc 4 1, 3) := dk_132 4 1 (dk_at dksX7_passes_4 0 rfl rfl)
theorem dX7_passes_96 : decode cX7_passes 96 = .ok (.goto (-61), 3) := dk_167 255 195 (dk_at dksX7_passes_4 3 rfl rfl)
theorem dX7_passes_99 : decode cX7_passes 99 = .ok (.aload_n 0, 1) := dk_42 (dk_at dksX7_passes_4 6 rfl rfl)
theorem dX7_passes_100 : decode cX7_passes 100 = .ok (.dup, 1) := dk_89 (dk_at dksX7_passes_4 7 rfl rfl)
theorem dX7_passes_101 : decode cX7_passes 101 = .ok (.getfield 36, 3) := dk_180 0 36 (dk_at dksX7_passes_4 8 rfl rfl)
theorem dX7_passes_104 : decode cX7_passes 104 = .ok (.iconst 1, 1) := dk_4 (dk_at dksX7_passes_4 11 rfl rfl)
theorem dX7_passes_105 : decode cX7_passes 105 = .ok (.iadd, 1) := dk_96 (dk_at dksX7_passes_4 12 rfl rfl)
theorem dX7_passes_106 : decode cX7_passes 106 = .ok (.putfield 36, 3) := dk_181 0 36 (dk_at dksX7_passes_4 13 rfl rfl)
theorem dX7_passes_109 : decode cX7_passes 109 = .ok (.iload_n 3, 1) := dk_29 (dk_at dksX7_passes_4 16 rfl rfl)
theorem dX7_passes_110 : decode cX7_passes 110 = .ok (.ireturn, 1) := dk_172 (dk_at dksX7_passes_4 17 rfl rfl)
abbrev cX7_gives : ByteArray := prog_18_method_9_code
def yX7_gives : MethodName := ⟨RX7, "gives", "(II)V"⟩
def dkwX7_gives_4 : List UInt8 := [177]
abbrev dktX7_gives_4 : List UInt8 := dkwX7_gives_4 ++ []
def dkwX7_gives_3 : List UInt8 := [180, 0, 43, 180, 0, 130, 42, 180, 0, 3, 180, 0, 77, 182, 0, 115, 184, 0, 135, 184, 0, 138, 136, 79]
abbrev dktX7_gives_3 : List UInt8 := dkwX7_gives_3 ++ dktX7_gives_4
def dkwX7_gives_2 : List UInt8 := [199, 0, 4, 177, 42, 27, 28, 182, 0, 101, 42, 180, 0, 22, 27, 9, 20, 0, 133, 42, 180, 0, 3]
abbrev dktX7_gives_2 : List UInt8 := dkwX7_gives_2 ++ dktX7_gives_3
def dkwX7_gives_1 : List UInt8 := [4, 96, 184, 0, 121, 79, 42, 27, 28, 182, 0, 127, 42, 180, 0, 3, 180, 0, 43, 180, 0, 130]
abbrev dktX7_gives_1 : List UInt8 := dkwX7_gives_1 ++ dktX7_gives_2
def dkwX7_gives_0 : List UInt8 := [42, 180, 0, 25, 27, 28, 79, 42, 180, 0, 30, 27, 50, 28, 16, 99, 42, 180, 0, 30, 27, 50, 28, 46]
abbrev dktX7_gives_0 : List UInt8 := dkwX7_gives_0 ++ dktX7_gives_1
theorem dksX7_gives_0 : cX7_gives.data.toList.drop 0 = dktX7_gives_0 := by decide +kernel
theorem dksX7_gives_1 : cX7_gives.data.toList.drop 24 = dktX7_gives_1 := dk_seg dksX7_gives_0 24 rfl rfl
theorem dksX7_gives_2 : cX7_gives.data.toList.drop 46 = dktX7_gives_2 := dk_seg dksX7_gives_1 22 rfl rfl
theorem dksX7_gives_3 : cX7_gives.data.toList.drop 69 = dktX7_gives_3 := dk_seg dksX7_gives_2 23 rfl rfl
theorem dksX7_gives_4 : cX7_gives.data.toList.drop 93 = dktX7_gives_4 := dk_seg dksX7_gives_3 24 rfl rfl
theorem dX7_gives_0 : decode cX7_gives 0 = .ok (.aload_n 0, 1) := dk_42 (dk_at dksX7_gives_0 0 rfl rfl)
theorem dX7_gives_1 : decode cX7_gives 1 = .ok (.getfield 25, 3) := dk_180 0 25 (dk_at dksX7_gives_0 1 rfl rfl)
theorem dX7_gives_4 : decode cX7_gives 4 = .ok (.iload_n 1, 1) := dk_27 (dk_at dksX7_gives_0 4 rfl rfl)
theorem dX7_gives_5 : decode cX7_gives 5 = .ok (.iload_n 2, 1) := dk_28 (dk_at dksX7_gives_0 5 rfl rfl)
theorem dX7_gives_6 : decode cX7_gives 6 = .ok (.iastore, 1) := dk_79 (dk_at dksX7_gives_0 6 rfl rfl)
theorem dX7_gives_7 : decode cX7_gives 7 = .ok (.aload_n 0, 1) := dk_42 (dk_at dksX7_gives_0 7 rfl rfl)
theorem dX7_gives_8 : decode cX7_gives 8 = .ok (.getfield 30, 3) := dk_180 0 30 (dk_at dksX7_gives_0 8 rfl rfl)
theorem dX7_gives_11 : decode cX7_gives 11 = .ok (.iload_n 1, 1) := dk_27 (dk_at dksX7_gives_0 11 rfl rfl)
theorem dX7_gives_12 : decode cX7_gives 12 = .ok (.aaload, 1) := dk_50 (dk_at dksX7_gives_0 12 rfl rfl)
theorem dX7_gives_13 : decode cX7_gives 13 = .ok (.iload_n 2, 1) := dk_28 (dk_at dksX7_gives_0 13 rfl rfl)
theorem dX7_gives_14 : decode cX7_gives 14 = .ok (.bipush 99, 2) := dk_16 99 (dk_at dksX7_gives_0 14 rfl rfl)
theorem dX7_gives_16 : decode cX7_gives 16 = .ok (.aload_n 0, 1) := dk_42 (dk_at dksX7_gives_0 16 rfl rfl)
theorem dX7_gives_17 : decode cX7_gives 17 = .ok (.getfield 30, 3) := dk_180 0 30 (dk_at dksX7_gives_0 17 rfl rfl)
theorem dX7_gives_20 : decode cX7_gives 20 = .ok (.iload_n 1, 1) := dk_27 (dk_at dksX7_gives_0 20 rfl rfl)
theorem dX7_gives_21 : decode cX7_gives 21 = .ok (.aaload, 1) := dk_50 (dk_at dksX7_gives_0 21 rfl rfl)
theorem dX7_gives_22 : decode cX7_gives 22 = .ok (.iload_n 2, 1) := dk_28 (dk_at dksX7_gives_0 22 rfl rfl)
theorem dX7_gives_23 : decode cX7_gives 23 = .ok (.iaload, 1) := dk_46 (dk_at dksX7_gives_0 23 rfl rfl)
theorem dX7_gives_24 : decode cX7_gives 24 = .ok (.iconst 1, 1) := dk_4 (dk_at dksX7_gives_1 0 rfl rfl)
theorem dX7_gives_25 : decode cX7_gives 25 = .ok (.iadd, 1) := dk_96 (dk_at dksX7_gives_1 1 rfl rfl)
theorem dX7_gives_26 : decode cX7_gives 26 = .ok (.invokestatic 121, 3) := dk_184 0 121 (dk_at dksX7_gives_1 2 rfl rfl)
theorem dX7_gives_29 : decode cX7_gives 29 = .ok (.iastore, 1) := dk_79 (dk_at dksX7_gives_1 5 rfl rfl)
theorem dX7_gives_30 : decode cX7_gives 30 = .ok (.aload_n 0, 1) := dk_42 (dk_at dksX7_gives_1 6 rfl rfl)
theorem dX7_gives_31 : decode cX7_gives 31 = .ok (.iload_n 1, 1) := dk_27 (dk_at dksX7_gives_1 7 rfl rfl)
theorem dX7_gives_32 : decode cX7_gives 32 = .ok (.iload_n 2, 1) := dk_28 (dk_at dksX7_gives_1 8 rfl rfl)
theorem dX7_gives_33 : decode cX7_gives 33 = .ok (.invokevirtual 127, 3) := dk_182 0 127 (dk_at dksX7_gives_1 9 rfl rfl)
theorem dX7_gives_36 : decode cX7_gives 36 = .ok (.aload_n 0, 1) := dk_42 (dk_at dksX7_gives_1 12 rfl rfl)
theorem dX7_gives_37 : decode cX7_gives 37 = .ok (.getfield 3, 3) := dk_180 0 3 (dk_at dksX7_gives_1 13 rfl rfl)
theorem dX7_gives_40 : decode cX7_gives 40 = .ok (.getfield 43, 3) := dk_180 0 43 (dk_at dksX7_gives_1 16 rfl rfl)
theorem dX7_gives_43 : decode cX7_gives 43 = .ok (.getfield 130, 3) := dk_180 0 130 (dk_at dksX7_gives_1 19 rfl rfl)
theorem dX7_gives_46 : decode cX7_gives 46 = .ok (.ifnonnull 4, 3) := dk_199 0 4 (dk_at dksX7_gives_2 0 rfl rfl)
theorem dX7_gives_49 : decode cX7_gives 49 = .ok (.return_, 1) := dk_177 (dk_at dksX7_gives_2 3 rfl rfl)
theorem dX7_gives_50 : decode cX7_gives 50 = .ok (.aload_n 0, 1) := dk_42 (dk_at dksX7_gives_2 4 rfl rfl)
theorem dX7_gives_51 : decode cX7_gives 51 = .ok (.iload_n 1, 1) := dk_27 (dk_at dksX7_gives_2 5 rfl rfl)
theorem dX7_gives_52 : decode cX7_gives 52 = .ok (.iload_n 2, 1) := dk_28 (dk_at dksX7_gives_2 6 rfl rfl)
theorem dX7_gives_53 : decode cX7_gives 53 = .ok (.invokevirtual 101, 3) := dk_182 0 101 (dk_at dksX7_gives_2 7 rfl rfl)
theorem dX7_gives_56 : decode cX7_gives 56 = .ok (.aload_n 0, 1) := dk_42 (dk_at dksX7_gives_2 10 rfl rfl)
theorem dX7_gives_57 : decode cX7_gives 57 = .ok (.getfield 22, 3) := dk_180 0 22 (dk_at dksX7_gives_2 11 rfl rfl)
theorem dX7_gives_60 : decode cX7_gives 60 = .ok (.iload_n 1, 1) := dk_27 (dk_at dksX7_gives_2 14 rfl rfl)
theorem dX7_gives_61 : decode cX7_gives 61 = .ok (.lconst 0, 1) := dk_9 (dk_at dksX7_gives_2 15 rfl rfl)
theorem dX7_gives_62 : decode cX7_gives 62 = .ok (.ldc2_w 133, 3) := dk_20 0 133 (dk_at dksX7_gives_2 16 rfl rfl)
theorem dX7_gives_65 : decode cX7_gives 65 = .ok (.aload_n 0, 1) := dk_42 (dk_at dksX7_gives_2 19 rfl rfl)
theorem dX7_gives_66 : decode cX7_gives 66 = .ok (.getfield 3, 3) := dk_180 0 3 (dk_at dksX7_gives_2 20 rfl rfl)
theorem dX7_gives_69 : decode cX7_gives 69 = .ok (.getfield 43, 3) := dk_180 0 43 (dk_at dksX7_gives_3 0 rfl rfl)
theorem dX7_gives_72 : decode cX7_gives 72 = .ok (.getfield 130, 3) := dk_180 0 130 (dk_at dksX7_gives_3 3 rfl rfl)
theorem dX7_gives_75 : decode cX7_gives 75 = .ok (.aload_n 0, 1) := dk_42 (dk_at dksX7_gives_3 6 rfl rfl)
theorem dX7_gives_76 : decode cX7_gives 76 = .ok (.getfield 3, 3) := dk_180 0 3 (dk_at dksX7_gives_3 7 rfl rfl)
theorem dX7_gives_79 : decode cX7_gives 79 = .ok (.getfield 77, 3) := dk_180 0 77 (dk_at dksX7_gives_3 10 rfl rfl)
theorem dX7_gives_82 : decode cX7_gives 82 = .ok (.invokevirtual 115, 3) := dk_182 0 115 (dk_at dksX7_gives_3 13 rfl rfl)
theorem dX7_gives_85 : decode cX7_gives 85 = .ok (.invokestatic 135, 3) := dk_184 0 135 (dk_at dksX7_gives_3 16 rfl rfl)
theorem dX7_gives_88 : decode cX7_gives 88 = .ok (.invokestatic 138, 3) := dk_184 0 138 (dk_at dksX7_gives_3 19 rfl rfl)
theorem dX7_gives_91 : decode cX7_gives 91 = .ok (.l2i, 1) := dk_136 (dk_at dksX7_gives_3 22 rfl rfl)
theorem dX7_gives_92 : decode cX7_gives 92 = .ok (.iastore, 1) := dk_79 (dk_at dksX7_gives_3 23 rfl rfl)
theorem dX7_gives_93 : decode cX7_gives 93 = .ok (.return_, 1) := dk_177 (dk_at dksX7_gives_4 0 rfl rfl)
abbrev cX7_tells : ByteArray := prog_18_method_8_code
def yX7_tells : MethodName := ⟨RX7, "tells", "(II)V"⟩
def dkwX7_tells_5 : List UInt8 := [177]
abbrev dktX7_tells_5 : List UInt8 := dkwX7_tells_5 ++ []
def dkwX7_tells_4 : List UInt8 := [27, 79, 42, 180, 0, 33, 42, 180, 0, 40, 50, 5, 28, 79, 42, 89, 180, 0, 40, 4, 96, 181, 0, 40]
abbrev dktX7_tells_4 : List UInt8 := dkwX7_tells_4 ++ dktX7_tells_5
def dkwX7_tells_3 : List UInt8 := [180, 0, 33, 42, 180, 0, 40, 50, 3, 42, 180, 0, 36, 79, 42, 180, 0, 33, 42, 180, 0, 40, 50, 4]
abbrev dktX7_tells_3 : List UInt8 := dkwX7_tells_3 ++ dktX7_tells_4
def dkwX7_tells_2 : List UInt8 := [167, 255, 230, 42, 180, 0, 33, 16, 49, 45, 83, 42, 89, 180, 0, 40, 4, 100, 181, 0, 40, 42]
abbrev dktX7_tells_2 : List UInt8 := dkwX7_tells_2 ++ dktX7_tells_3
def dkwX7_tells_1 : List UInt8 := [162, 0, 25, 42, 180, 0, 33, 21, 4, 4, 100, 42, 180, 0, 33, 21, 4, 50, 83, 132, 4, 1]
abbrev dktX7_tells_1 : List UInt8 := dkwX7_tells_1 ++ dktX7_tells_2
def dkwX7_tells_0 : List UInt8 := [42, 180, 0, 40, 16, 50, 160, 0, 60, 42, 180, 0, 33, 3, 50, 78, 4, 54, 4, 21, 4, 16, 50]
abbrev dktX7_tells_0 : List UInt8 := dkwX7_tells_0 ++ dktX7_tells_1
theorem dksX7_tells_0 : cX7_tells.data.toList.drop 0 = dktX7_tells_0 := by decide +kernel
theorem dksX7_tells_1 : cX7_tells.data.toList.drop 23 = dktX7_tells_1 := dk_seg dksX7_tells_0 23 rfl rfl
theorem dksX7_tells_2 : cX7_tells.data.toList.drop 45 = dktX7_tells_2 := dk_seg dksX7_tells_1 22 rfl rfl
theorem dksX7_tells_3 : cX7_tells.data.toList.drop 67 = dktX7_tells_3 := dk_seg dksX7_tells_2 22 rfl rfl
theorem dksX7_tells_4 : cX7_tells.data.toList.drop 91 = dktX7_tells_4 := dk_seg dksX7_tells_3 24 rfl rfl
theorem dksX7_tells_5 : cX7_tells.data.toList.drop 115 = dktX7_tells_5 := dk_seg dksX7_tells_4 24 rfl rfl
theorem dX7_tells_0 : decode cX7_tells 0 = .ok (.aload_n 0, 1) := dk_42 (dk_at dksX7_tells_0 0 rfl rfl)
theorem dX7_tells_1 : decode cX7_tells 1 = .ok (.getfield 40, 3) := dk_180 0 40 (dk_at dksX7_tells_0 1 rfl rfl)
theorem dX7_tells_4 : decode cX7_tells 4 = .ok (.bipush 50, 2) := dk_16 50 (dk_at dksX7_tells_0 4 rfl rfl)
theorem dX7_tells_6 : decode cX7_tells 6 = .ok (.if_icmp .ne 60, 3) := dk_160 0 60 (dk_at dksX7_tells_0 6 rfl rfl)
theorem dX7_tells_9 : decode cX7_tells 9 = .ok (.aload_n 0, 1) := dk_42 (dk_at dksX7_tells_0 9 rfl rfl)
theorem dX7_tells_10 : decode cX7_tells 10 = .ok (.getfield 33, 3) := dk_180 0 33 (dk_at dksX7_tells_0 10 rfl rfl)
theorem dX7_tells_13 : decode cX7_tells 13 = .ok (.iconst 0, 1) := dk_3 (dk_at dksX7_tells_0 13 rfl rfl)
theorem dX7_tells_14 : decode cX7_tells 14 = .ok (.aaload, 1) := dk_50 (dk_at dksX7_tells_0 14 rfl rfl)
theorem dX7_tells_15 : decode cX7_tells 15 = .ok (.astore_n 3, 1) := dk_78 (dk_at dksX7_tells_0 15 rfl rfl)
theorem dX7_tells_16 : decode cX7_tells 16 = .ok (.iconst 1, 1) := dk_4 (dk_at dksX7_tells_0 16 rfl rfl)
theorem dX7_tells_17 : decode cX7_tells 17 = .ok (.istore 4, 2) := dk_54 4 (dk_at dksX7_tells_0 17 rfl rfl)
theorem dX7_tells_19 : decode cX7_tells 19 = .ok (.iload 4, 2) := dk_21 4 (dk_at dksX7_tells_0 19 rfl rfl)
theorem dX7_tells_21 : decode cX7_tells 21 = .ok (.bipush 50, 2) := dk_16 50 (dk_at dksX7_tells_0 21 rfl rfl)
theorem dX7_tells_23 : decode cX7_tells 23 = .ok (.if_icmp .ge 25, 3) := dk_162 0 25 (dk_at dksX7_tells_1 0 rfl rfl)
theorem dX7_tells_26 : decode cX7_tells 26 = .ok (.aload_n 0, 1) := dk_42 (dk_at dksX7_tells_1 3 rfl rfl)
theorem dX7_tells_27 : decode cX7_tells 27 = .ok (.getfield 33, 3) := dk_180 0 33 (dk_at dksX7_tells_1 4 rfl rfl)
theorem dX7_tells_30 : decode cX7_tells 30 = .ok (.iload 4, 2) := dk_21 4 (dk_at dksX7_tells_1 7 rfl rfl)
theorem dX7_tells_32 : decode cX7_tells 32 = .ok (.iconst 1, 1) := dk_4 (dk_at dksX7_tells_1 9 rfl rfl)
theorem dX7_tells_33 : decode cX7_tells 33 = .ok (.isub, 1) := dk_100 (dk_at dksX7_tells_1 10 rfl rfl)
theorem dX7_tells_34 : decode cX7_tells 34 = .ok (.aload_n 0, 1) := dk_42 (dk_at dksX7_tells_1 11 rfl rfl)
theorem dX7_tells_35 : decode cX7_tells 35 = .ok (.getfield 33, 3) := dk_180 0 33 (dk_at dksX7_tells_1 12 rfl rfl)
theorem dX7_tells_38 : decode cX7_tells 38 = .ok (.iload 4, 2) := dk_21 4 (dk_at dksX7_tells_1 15 rfl rfl)
theorem dX7_tells_40 : decode cX7_tells 40 = .ok (.aaload, 1) := dk_50 (dk_at dksX7_tells_1 17 rfl rfl)
theorem dX7_tells_41 : decode cX7_tells 41 = .ok (.aastore, 1) := dk_83 (dk_at dksX7_tells_1 18 rfl rfl)
theorem dX7_tells_42 : decode cX7_tells 42 = .ok (.iinc 4 1, 3) := dk_132 4 1 (dk_at dksX7_tells_1 19 rfl rfl)
theorem dX7_tells_45 : decode cX7_tells 45 = .ok (.goto (-26), 3) := dk_167 255 230 (dk_at dksX7_tells_2 0 rfl rfl)
theorem dX7_tells_48 : decode cX7_tells 48 = .ok (.aload_n 0, 1) := dk_42 (dk_at dksX7_tells_2 3 rfl rfl)
theorem dX7_tells_49 : decode cX7_tells 49 = .ok (.getfield 33, 3) := dk_180 0 33 (dk_at dksX7_tells_2 4 rfl rfl)
theorem dX7_tells_52 : decode cX7_tells 52 = .ok (.bipush 49, 2) := dk_16 49 (dk_at dksX7_tells_2 7 rfl rfl)
theorem dX7_tells_54 : decode cX7_tells 54 = .ok (.aload_n 3, 1) := dk_45 (dk_at dksX7_tells_2 9 rfl rfl)
theorem dX7_tells_55 : decode cX7_tells 55 = .ok (.aastore, 1) := dk_83 (dk_at dksX7_tells_2 10 rfl rfl)
theorem dX7_tells_56 : decode cX7_tells 56 = .ok (.aload_n 0, 1) := dk_42 (dk_at dksX7_tells_2 11 rfl rfl)
theorem dX7_tells_57 : decode cX7_tells 57 = .ok (.dup, 1) := dk_89 (dk_at dksX7_tells_2 12 rfl rfl)
theorem dX7_tells_58 : decode cX7_tells 58 = .ok (.getfield 40, 3) := dk_180 0 40 (dk_at dksX7_tells_2 13 rfl rfl)
theorem dX7_tells_61 : decode cX7_tells 61 = .ok (.iconst 1, 1) := dk_4 (dk_at dksX7_tells_2 16 rfl rfl)
theorem dX7_tells_62 : decode cX7_tells 62 = .ok (.isub, 1) := dk_100 (dk_at dksX7_tells_2 17 rfl rfl)
theorem dX7_tells_63 : decode cX7_tells 63 = .ok (.putfield 40, 3) := dk_181 0 40 (dk_at dksX7_tells_2 18 rfl rfl)
theorem dX7_tells_66 : decode cX7_tells 66 = .ok (.aload_n 0, 1) := dk_42 (dk_at dksX7_tells_2 21 rfl rfl)
theorem dX7_tells_67 : decode cX7_tells 67 = .ok (.getfield 33, 3) := dk_180 0 33 (dk_at dksX7_tells_3 0 rfl rfl)
theorem dX7_tells_70 : decode cX7_tells 70 = .ok (.aload_n 0, 1) := dk_42 (dk_at dksX7_tells_3 3 rfl rfl)
theorem dX7_tells_71 : decode cX7_tells 71 = .ok (.getfield 40, 3) := dk_180 0 40 (dk_at dksX7_tells_3 4 rfl rfl)
theorem dX7_tells_74 : decode cX7_tells 74 = .ok (.aaload, 1) := dk_50 (dk_at dksX7_tells_3 7 rfl rfl)
theorem dX7_tells_75 : decode cX7_tells 75 = .ok (.iconst 0, 1) := dk_3 (dk_at dksX7_tells_3 8 rfl rfl)
theorem dX7_tells_76 : decode cX7_tells 76 = .ok (.aload_n 0, 1) := dk_42 (dk_at dksX7_tells_3 9 rfl rfl)
theorem dX7_tells_77 : decode cX7_tells 77 = .ok (.getfield 36, 3) := dk_180 0 36 (dk_at dksX7_tells_3 10 rfl rfl)
theorem dX7_tells_80 : decode cX7_tells 80 = .ok (.iastore, 1) := dk_79 (dk_at dksX7_tells_3 13 rfl rfl)
theorem dX7_tells_81 : decode cX7_tells 81 = .ok (.aload_n 0, 1) := dk_42 (dk_at dksX7_tells_3 14 rfl rfl)
theorem dX7_tells_82 : decode cX7_tells 82 = .ok (.getfield 33, 3) := dk_180 0 33 (dk_at dksX7_tells_3 15 rfl rfl)
theorem dX7_tells_85 : decode cX7_tells 85 = .ok (.aload_n 0, 1) := dk_42 (dk_at dksX7_tells_3 18 rfl rfl)
theorem dX7_tells_86 : decode cX7_tells 86 = .ok (.getfield 40, 3) := dk_180 0 40 (dk_at dksX7_tells_3 19 rfl rfl)
theorem dX7_tells_89 : decode cX7_tells 89 = .ok (.aaload, 1) := dk_50 (dk_at dksX7_tells_3 22 rfl rfl)
theorem dX7_tells_90 : decode cX7_tells 90 = .ok (.iconst 1, 1) := dk_4 (dk_at dksX7_tells_3 23 rfl rfl)
theorem dX7_tells_91 : decode cX7_tells 91 = .ok (.iload_n 1, 1) := dk_27 (dk_at dksX7_tells_4 0 rfl rfl)
theorem dX7_tells_92 : decode cX7_tells 92 = .ok (.iastore, 1) := dk_79 (dk_at dksX7_tells_4 1 rfl rfl)
theorem dX7_tells_93 : decode cX7_tells 93 = .ok (.aload_n 0, 1) := dk_42 (dk_at dksX7_tells_4 2 rfl rfl)
theorem dX7_tells_94 : decode cX7_tells 94 = .ok (.getfield 33, 3) := dk_180 0 33 (dk_at dksX7_tells_4 3 rfl rfl)
theorem dX7_tells_97 : decode cX7_tells 97 = .ok (.aload_n 0, 1) := dk_42 (dk_at dksX7_tells_4 6 rfl rfl)
theorem dX7_tells_98 : decode cX7_tells 98 = .ok (.getfield 40, 3) := dk_180 0 40 (dk_at dksX7_tells_4 7 rfl rfl)
theorem dX7_tells_101 : decode cX7_tells 101 = .ok (.aaload, 1) := dk_50 (dk_at dksX7_tells_4 10 rfl rfl)
theorem dX7_tells_102 : decode cX7_tells 102 = .ok (.iconst 2, 1) := dk_5 (dk_at dksX7_tells_4 11 rfl rfl)
theorem dX7_tells_103 : decode cX7_tells 103 = .ok (.iload_n 2, 1) := dk_28 (dk_at dksX7_tells_4 12 rfl rfl)
theorem dX7_tells_104 : decode cX7_tells 104 = .ok (.iastore, 1) := dk_79 (dk_at dksX7_tells_4 13 rfl rfl)
theorem dX7_tells_105 : decode cX7_tells 105 = .ok (.aload_n 0, 1) := dk_42 (dk_at dksX7_tells_4 14 rfl rfl)
theorem dX7_tells_106 : decode cX7_tells 106 = .ok (.dup, 1) := dk_89 (dk_at dksX7_tells_4 15 rfl rfl)
theorem dX7_tells_107 : decode cX7_tells 107 = .ok (.getfield 40, 3) := dk_180 0 40 (dk_at dksX7_tells_4 16 rfl rfl)
theorem dX7_tells_110 : decode cX7_tells 110 = .ok (.iconst 1, 1) := dk_4 (dk_at dksX7_tells_4 19 rfl rfl)
theorem dX7_tells_111 : decode cX7_tells 111 = .ok (.iadd, 1) := dk_96 (dk_at dksX7_tells_4 20 rfl rfl)
theorem dX7_tells_112 : decode cX7_tells 112 = .ok (.putfield 40, 3) := dk_181 0 40 (dk_at dksX7_tells_4 21 rfl rfl)
theorem dX7_tells_115 : decode cX7_tells 115 = .ok (.return_, 1) := dk_177 (dk_at dksX7_tells_5 0 rfl rfl)
abbrev cX7_spills : ByteArray := prog_18_method_11_code
def yX7_spills : MethodName := ⟨RX7, "spills", "()V"⟩
def dkwX7_spills_4 : List UInt8 := [167, 255, 171, 42, 89, 180, 0, 36, 4, 96, 181, 0, 36, 177]
abbrev dktX7_spills_4 : List UInt8 := dkwX7_spills_4 ++ []
def dkwX7_spills_3 : List UInt8 := [167, 255, 223, 27, 4, 21, 4, 120, 2, 130, 126, 60, 42, 28, 21, 4, 182, 0, 174, 132, 2, 1]
abbrev dktX7_spills_3 : List UInt8 := dkwX7_spills_3 ++ dktX7_spills_4
def dkwX7_spills_2 : List UInt8 := [158, 0, 26, 29, 27, 21, 4, 184, 0, 167, 153, 0, 7, 4, 167, 0, 4, 3, 100, 62, 132, 4, 1]
abbrev dktX7_spills_2 : List UInt8 := dkwX7_spills_2 ++ dktX7_spills_3
def dkwX7_spills_1 : List UInt8 := [180, 0, 3, 27, 184, 0, 180, 182, 0, 186, 62, 3, 54, 4, 27, 21, 4, 184, 0, 167, 153, 0, 7, 29]
abbrev dktX7_spills_1 : List UInt8 := dkwX7_spills_1 ++ dktX7_spills_2
def dkwX7_spills_0 : List UInt8 := [42, 182, 0, 177, 60, 3, 61, 28, 42, 180, 0, 3, 182, 0, 53, 162, 0, 80, 27, 153, 0, 76, 42]
abbrev dktX7_spills_0 : List UInt8 := dkwX7_spills_0 ++ dktX7_spills_1
theorem dksX7_spills_0 : cX7_spills.data.toList.drop 0 = dktX7_spills_0 := by decide +kernel
theorem dksX7_spills_1 : cX7_spills.data.toList.drop 23 = dktX7_spills_1 := dk_seg dksX7_spills_0 23 rfl rfl
theorem dksX7_spills_2 : cX7_spills.data.toList.drop 47 = dktX7_spills_2 := dk_seg dksX7_spills_1 24 rfl rfl
theorem dksX7_spills_3 : cX7_spills.data.toList.drop 70 = dktX7_spills_3 := dk_seg dksX7_spills_2 23 rfl rfl
theorem dksX7_spills_4 : cX7_spills.data.toList.drop 92 = dktX7_spills_4 := dk_seg dksX7_spills_3 22 rfl rfl
theorem dX7_spills_0 : decode cX7_spills 0 = .ok (.aload_n 0, 1) := dk_42 (dk_at dksX7_spills_0 0 rfl rfl)
theorem dX7_spills_1 : decode cX7_spills 1 = .ok (.invokevirtual 177, 3) := dk_182 0 177 (dk_at dksX7_spills_0 1 rfl rfl)
theorem dX7_spills_4 : decode cX7_spills 4 = .ok (.istore_n 1, 1) := dk_60 (dk_at dksX7_spills_0 4 rfl rfl)
theorem dX7_spills_5 : decode cX7_spills 5 = .ok (.iconst 0, 1) := dk_3 (dk_at dksX7_spills_0 5 rfl rfl)
theorem dX7_spills_6 : decode cX7_spills 6 = .ok (.istore_n 2, 1) := dk_61 (dk_at dksX7_spills_0 6 rfl rfl)
theorem dX7_spills_7 : decode cX7_spills 7 = .ok (.iload_n 2, 1) := dk_28 (dk_at dksX7_spills_0 7 rfl rfl)
theorem dX7_spills_8 : decode cX7_spills 8 = .ok (.aload_n 0, 1) := dk_42 (dk_at dksX7_spills_0 8 rfl rfl)
theorem dX7_spills_9 : decode cX7_spills 9 = .ok (.getfield 3, 3) := dk_180 0 3 (dk_at dksX7_spills_0 9 rfl rfl)
theorem dX7_spills_12 : decode cX7_spills 12 = .ok (.invokevirtual 53, 3) := dk_182 0 53 (dk_at dksX7_spills_0 12 rfl rfl)
theorem dX7_spills_15 : decode cX7_spills 15 = .ok (.if_icmp .ge 80, 3) := dk_162 0 80 (dk_at dksX7_spills_0 15 rfl rfl)
theorem dX7_spills_18 : decode cX7_spills 18 = .ok (.iload_n 1, 1) := dk_27 (dk_at dksX7_spills_0 18 rfl rfl)
theorem dX7_spills_19 : decode cX7_spills 19 = .ok (.ifCond .eq 76, 3) := dk_153 0 76 (dk_at dksX7_spills_0 19 rfl rfl)
theorem dX7_spills_22 : decode cX7_spills 22 = .ok (.aload_n 0, 1) := dk_42 (dk_at dksX7_spills_0 22 rfl rfl)
theorem dX7_spills_23 : decode cX7_spills 23 = .ok (.getfield 3, 3) := dk_180 0 3 (dk_at dksX7_spills_1 0 rfl rfl)
theorem dX7_spills_26 : decode cX7_spills 26 = .ok (.iload_n 1, 1) := dk_27 (dk_at dksX7_spills_1 3 rfl rfl)
theorem dX7_spills_27 : decode cX7_spills 27 = .ok (.invokestatic 180, 3) := dk_184 0 180 (dk_at dksX7_spills_1 4 rfl rfl)
theorem dX7_spills_30 : decode cX7_spills 30 = .ok (.invokevirtual 186, 3) := dk_182 0 186 (dk_at dksX7_spills_1 7 rfl rfl)
theorem dX7_spills_33 : decode cX7_spills 33 = .ok (.istore_n 3, 1) := dk_62 (dk_at dksX7_spills_1 10 rfl rfl)
theorem dX7_spills_34 : decode cX7_spills 34 = .ok (.iconst 0, 1) := dk_3 (dk_at dksX7_spills_1 11 rfl rfl)
theorem dX7_spills_35 : decode cX7_spills 35 = .ok (.istore 4, 2) := dk_54 4 (dk_at dksX7_spills_1 12 rfl rfl)
theorem dX7_spills_37 : decode cX7_spills 37 = .ok (.iload_n 1, 1) := dk_27 (dk_at dksX7_spills_1 14 rfl rfl)
theorem dX7_spills_38 : decode cX7_spills 38 = .ok (.iload 4, 2) := dk_21 4 (dk_at dksX7_spills_1 15 rfl rfl)
theorem dX7_spills_40 : decode cX7_spills 40 = .ok (.invokestatic 167, 3) := dk_184 0 167 (dk_at dksX7_spills_1 17 rfl rfl)
theorem dX7_spills_43 : decode cX7_spills 43 = .ok (.ifCond .eq 7, 3) := dk_153 0 7 (dk_at dksX7_spills_1 20 rfl rfl)
theorem dX7_spills_46 : decode cX7_spills 46 = .ok (.iload_n 3, 1) := dk_29 (dk_at dksX7_spills_1 23 rfl rfl)
theorem dX7_spills_47 : decode cX7_spills 47 = .ok (.ifCond .le 26, 3) := dk_158 0 26 (dk_at dksX7_spills_2 0 rfl rfl)
theorem dX7_spills_50 : decode cX7_spills 50 = .ok (.iload_n 3, 1) := dk_29 (dk_at dksX7_spills_2 3 rfl rfl)
theorem dX7_spills_51 : decode cX7_spills 51 = .ok (.iload_n 1, 1) := dk_27 (dk_at dksX7_spills_2 4 rfl rfl)
theorem dX7_spills_52 : decode cX7_spills 52 = .ok (.iload 4, 2) := dk_21 4 (dk_at dksX7_spills_2 5 rfl rfl)
theorem dX7_spills_54 : decode cX7_spills 54 = .ok (.invokestatic 167, 3) := dk_184 0 167 (dk_at dksX7_spills_2 7 rfl rfl)
theorem dX7_spills_57 : decode cX7_spills 57 = .ok (.ifCond .eq 7, 3) := dk_153 0 7 (dk_at dksX7_spills_2 10 rfl rfl)
theorem dX7_spills_60 : decode cX7_spills 60 = .ok (.iconst 1, 1) := dk_4 (dk_at dksX7_spills_2 13 rfl rfl)
theorem dX7_spills_61 : decode cX7_spills 61 = .ok (.goto 4, 3) := dk_167 0 4 (dk_at dksX7_spills_2 14 rfl rfl)
theorem dX7_spills_64 : decode cX7_spills 64 = .ok (.iconst 0, 1) := dk_3 (dk_at dksX7_spills_2 17 rfl rfl)
theorem dX7_spills_65 : decode cX7_spills 65 = .ok (.isub, 1) := dk_100 (dk_at dksX7_spills_2 18 rfl rfl)
theorem dX7_spills_66 : decode cX7_spills 66 = .ok (.istore_n 3, 1) := dk_62 (dk_at dksX7_spills_2 19 rfl rfl)
theorem dX7_spills_67 : decode cX7_spills 67 = .ok (.iinc 4 1, 3) := dk_132 4 1 (dk_at dksX7_spills_2 20 rfl rfl)
theorem dX7_spills_70 : decode cX7_spills 70 = .ok (.goto (-33), 3) := dk_167 255 223 (dk_at dksX7_spills_3 0 rfl rfl)
theorem dX7_spills_73 : decode cX7_spills 73 = .ok (.iload_n 1, 1) := dk_27 (dk_at dksX7_spills_3 3 rfl rfl)
theorem dX7_spills_74 : decode cX7_spills 74 = .ok (.iconst 1, 1) := dk_4 (dk_at dksX7_spills_3 4 rfl rfl)
theorem dX7_spills_75 : decode cX7_spills 75 = .ok (.iload 4, 2) := dk_21 4 (dk_at dksX7_spills_3 5 rfl rfl)
theorem dX7_spills_77 : decode cX7_spills 77 = .ok (.ishl, 1) := dk_120 (dk_at dksX7_spills_3 7 rfl rfl)
theorem dX7_spills_78 : decode cX7_spills 78 = .ok (.iconst (-1), 1) := dk_2 (dk_at dksX7_spills_3 8 rfl rfl)
theorem dX7_spills_79 : decode cX7_spills 79 = .ok (.ixor, 1) := dk_130 (dk_at dksX7_spills_3 9 rfl rfl)
theorem dX7_spills_80 : decode cX7_spills 80 = .ok (.iand, 1) := dk_126 (dk_at dksX7_spills_3 10 rfl rfl)
theorem dX7_spills_81 : decode cX7_spills 81 = .ok (.istore_n 1, 1) := dk_60 (dk_at dksX7_spills_3 11 rfl rfl)
theorem dX7_spills_82 : decode cX7_spills 82 = .ok (.aload_n 0, 1) := dk_42 (dk_at dksX7_spills_3 12 rfl rfl)
theorem dX7_spills_83 : decode cX7_spills 83 = .ok (.iload_n 2, 1) := dk_28 (dk_at dksX7_spills_3 13 rfl rfl)
theorem dX7_spills_84 : decode cX7_spills 84 = .ok (.iload 4, 2) := dk_21 4 (dk_at dksX7_spills_3 14 rfl rfl)
theorem dX7_spills_86 : decode cX7_spills 86 = .ok (.invokevirtual 174, 3) := dk_182 0 174 (dk_at dksX7_spills_3 16 rfl rfl)
theorem dX7_spills_89 : decode cX7_spills 89 = .ok (.iinc 2 1, 3) := dk_132 2 1 (dk_at dksX7_spills_3 19 rfl rfl)
theorem dX7_spills_92 : decode cX7_spills 92 = .ok (.goto (-85), 3) := dk_167 255 171 (dk_at dksX7_spills_4 0 rfl rfl)
theorem dX7_spills_95 : decode cX7_spills 95 = .ok (.aload_n 0, 1) := dk_42 (dk_at dksX7_spills_4 3 rfl rfl)
theorem dX7_spills_96 : decode cX7_spills 96 = .ok (.dup, 1) := dk_89 (dk_at dksX7_spills_4 4 rfl rfl)
theorem dX7_spills_97 : decode cX7_spills 97 = .ok (.getfield 36, 3) := dk_180 0 36 (dk_at dksX7_spills_4 5 rfl rfl)
theorem dX7_spills_100 : decode cX7_spills 100 = .ok (.iconst 1, 1) := dk_4 (dk_at dksX7_spills_4 8 rfl rfl)
theorem dX7_spills_101 : decode cX7_spills 101 = .ok (.iadd, 1) := dk_96 (dk_at dksX7_spills_4 9 rfl rfl)
theorem dX7_spills_102 : decode cX7_spills 102 = .ok (.putfield 36, 3) := dk_181 0 36 (dk_at dksX7_spills_4 10 rfl rfl)
theorem dX7_spills_105 : decode cX7_spills 105 = .ok (.return_, 1) := dk_177 (dk_at dksX7_spills_4 13 rfl rfl)
theorem q160 : (Jvm.Cond.initialized "VerbAtDusk$State") ∈ lw_all := lw_g (lw_at lw_m1 14 rfl) rfl
theorem q236 : (Jvm.Cond.fieldLinkNest "VerbAtDusk$State" (47 : Nat) "VerbAtDusk$Country" "lent" "I" "VerbAtDusk") ∈ lw_tbl := lw_at lw_m1 90 rfl
theorem q241 : (Jvm.Cond.fieldLinkNest "VerbAtDusk$State" (57 : Nat) "VerbAtDusk$Country" "sayings" "Ljava/util/List;" "VerbAtDusk") ∈ lw_tbl := lw_at lw_m1 95 rfl
theorem q245 : (Jvm.Cond.fieldLinkNest "VerbAtDusk$State" (87 : Nat) "VerbAtDusk$Country" "verbs" "Ljava/util/List;" "VerbAtDusk") ∈ lw_tbl := lw_at lw_m1 99 rfl
theorem q248 : (Jvm.Cond.fieldLinkNest "VerbAtDusk$State" (97 : Nat) "VerbAtDusk$Country" "takes" "LVerbAtDusk$Test;" "VerbAtDusk") ∈ lw_tbl := lw_at lw_m1 102 rfl
theorem q250 : (Jvm.Cond.fieldLinkNest "VerbAtDusk$State" (111 : Nat) "VerbAtDusk$Country" "well" "LVerbAtDusk$Value;" "VerbAtDusk") ∈ lw_tbl := lw_at lw_m1 104 rfl
theorem q252 : (Jvm.Cond.fieldLinkNest "VerbAtDusk$State" (130 : Nat) "VerbAtDusk$Country" "turns" "LVerbAtDusk$Value;" "VerbAtDusk") ∈ lw_tbl := lw_at lw_m1 106 rfl
theorem q385 : (Jvm.Cond.fieldLinkNest "VerbAtDusk$State" (81 : Nat) "VerbAtDusk$Moment" "of" "[J" "VerbAtDusk") ∈ lw_tbl := lw_at lw_m1 239 rfl
theorem q432 : (Jvm.Cond.fieldLinkNest "VerbAtDusk$State" (171 : Nat) "VerbAtDusk$Giving" "best" "[I" "VerbAtDusk") ∈ lw_tbl := lw_at lw_m2 46 rfl
theorem q438 : (Jvm.Cond.fieldLinkNest "VerbAtDusk$State" (163 : Nat) "VerbAtDusk$Giving" "is" "Z" "VerbAtDusk") ∈ lw_tbl := lw_at lw_m2 52 rfl
theorem q466 : (Jvm.Cond.instantiable "VerbAtDusk$State" (10 : Nat)) ∈ lw_all := lw_g (lw_at lw_m2 80 rfl) rfl
theorem q468 : (Jvm.Cond.instanceMethod ({ cls := "VerbAtDusk$State", name := "<init>", desc := "(LVerbAtDusk;)V" } : Jvm.MethodName)) ∈ lw_all := lw_g (lw_at lw_m2 82 rfl) rfl
theorem q469 : (Jvm.Cond.code ({ cls := "VerbAtDusk$State", name := "<init>", desc := "(LVerbAtDusk;)V" } : Jvm.MethodName) prog_18_method_1_code (2 : Nat) (Option.none : Option Jvm.ClassFile.FieldType)) ∈ lw_all := lw_g (lw_at lw_m2 83 rfl) rfl
theorem q470 : (Jvm.Cond.methodLink "VerbAtDusk$State" (9 : Nat) ({ cls := "java/lang/Object", name := "<init>", desc := "()V" } : Jvm.MethodName)) ∈ lw_all := lw_g (lw_at lw_m2 84 rfl) rfl
theorem q471 : (Jvm.Cond.classLink "VerbAtDusk$State" (28 : Nat) "[[I") ∈ lw_all := lw_g (lw_at lw_m2 85 rfl) rfl
theorem q473 : (Jvm.Cond.fieldLink "VerbAtDusk$State" (36 : Nat) "VerbAtDusk$State" "day" "I") ∈ lw_all := lw_g (lw_at lw_m2 87 rfl) rfl
theorem q475 : (Jvm.Cond.fieldLink "VerbAtDusk$State" (52 : Nat) "VerbAtDusk$State" "lent" "I") ∈ lw_all := lw_g (lw_at lw_m2 89 rfl) rfl
theorem q477 : (Jvm.Cond.fieldLink "VerbAtDusk$State" (40 : Nat) "VerbAtDusk$State" "keeps" "I") ∈ lw_all := lw_g (lw_at lw_m2 91 rfl) rfl
theorem q479 : (Jvm.Cond.fieldLink "VerbAtDusk$State" (15 : Nat) "VerbAtDusk$State" "column" "[I") ∈ lw_all := lw_g (lw_at lw_m2 93 rfl) rfl
theorem q482 : (Jvm.Cond.fieldLink "VerbAtDusk$State" (19 : Nat) "VerbAtDusk$State" "row" "[I") ∈ lw_all := lw_g (lw_at lw_m2 96 rfl) rfl
theorem q485 : (Jvm.Cond.fieldLink "VerbAtDusk$State" (22 : Nat) "VerbAtDusk$State" "tone" "[I") ∈ lw_all := lw_g (lw_at lw_m2 99 rfl) rfl
theorem q487 : (Jvm.Cond.fieldLink "VerbAtDusk$State" (25 : Nat) "VerbAtDusk$State" "gets" "[I") ∈ lw_all := lw_g (lw_at lw_m2 101 rfl) rfl
theorem q489 : (Jvm.Cond.fieldLink "VerbAtDusk$State" (30 : Nat) "VerbAtDusk$State" "given" "[[I") ∈ lw_all := lw_g (lw_at lw_m2 103 rfl) rfl
theorem q491 : (Jvm.Cond.fieldLink "VerbAtDusk$State" (33 : Nat) "VerbAtDusk$State" "rows" "[[I") ∈ lw_all := lw_g (lw_at lw_m2 105 rfl) rfl
theorem q493 : (Jvm.Cond.fieldLink "VerbAtDusk$State" (3 : Nat) "VerbAtDusk$State" "this$0" "LVerbAtDusk;") ∈ lw_all := lw_g (lw_at lw_m2 107 rfl) rfl
theorem q494 : (Jvm.Cond.lays "VerbAtDusk$State" "VerbAtDusk$State" "day" "I") ∈ lw_all := lw_g (lw_at lw_m2 108 rfl) rfl
theorem q495 : (Jvm.Cond.soleField "VerbAtDusk$State" "day") ∈ lw_all := lw_g (lw_at lw_m2 109 rfl) rfl
theorem q496 : (Jvm.Cond.lays "VerbAtDusk$State" "VerbAtDusk$State" "lent" "I") ∈ lw_all := lw_g (lw_at lw_m2 110 rfl) rfl
theorem q497 : (Jvm.Cond.soleField "VerbAtDusk$State" "lent") ∈ lw_all := lw_g (lw_at lw_m2 111 rfl) rfl
theorem q498 : (Jvm.Cond.lays "VerbAtDusk$State" "VerbAtDusk$State" "keeps" "I") ∈ lw_all := lw_g (lw_at lw_m2 112 rfl) rfl
theorem q499 : (Jvm.Cond.soleField "VerbAtDusk$State" "keeps") ∈ lw_all := lw_g (lw_at lw_m2 113 rfl) rfl
theorem q500 : (Jvm.Cond.laysFinal "VerbAtDusk$State" "VerbAtDusk$State" "column" "[I") ∈ lw_all := lw_g (lw_at lw_m2 114 rfl) rfl
theorem q501 : (Jvm.Cond.soleField "VerbAtDusk$State" "column") ∈ lw_all := lw_g (lw_at lw_m2 115 rfl) rfl
theorem q502 : (Jvm.Cond.laysFinal "VerbAtDusk$State" "VerbAtDusk$State" "row" "[I") ∈ lw_all := lw_g (lw_at lw_m2 116 rfl) rfl
theorem q503 : (Jvm.Cond.soleField "VerbAtDusk$State" "row") ∈ lw_all := lw_g (lw_at lw_m2 117 rfl) rfl
theorem q504 : (Jvm.Cond.laysFinal "VerbAtDusk$State" "VerbAtDusk$State" "tone" "[I") ∈ lw_all := lw_g (lw_at lw_m2 118 rfl) rfl
theorem q505 : (Jvm.Cond.soleField "VerbAtDusk$State" "tone") ∈ lw_all := lw_g (lw_at lw_m2 119 rfl) rfl
theorem q506 : (Jvm.Cond.laysFinal "VerbAtDusk$State" "VerbAtDusk$State" "gets" "[I") ∈ lw_all := lw_g (lw_at lw_m2 120 rfl) rfl
theorem q507 : (Jvm.Cond.soleField "VerbAtDusk$State" "gets") ∈ lw_all := lw_g (lw_at lw_m2 121 rfl) rfl
theorem q508 : (Jvm.Cond.laysFinal "VerbAtDusk$State" "VerbAtDusk$State" "given" "[[I") ∈ lw_all := lw_g (lw_at lw_m2 122 rfl) rfl
theorem q509 : (Jvm.Cond.soleField "VerbAtDusk$State" "given") ∈ lw_all := lw_g (lw_at lw_m2 123 rfl) rfl
theorem q510 : (Jvm.Cond.laysFinal "VerbAtDusk$State" "VerbAtDusk$State" "rows" "[[I") ∈ lw_all := lw_g (lw_at lw_m2 124 rfl) rfl
theorem q511 : (Jvm.Cond.soleField "VerbAtDusk$State" "rows") ∈ lw_all := lw_g (lw_at lw_m2 125 rfl) rfl
theorem q512 : (Jvm.Cond.laysFinal "VerbAtDusk$State" "VerbAtDusk$State" "this$0" "LVerbAtDusk;") ∈ lw_all := lw_g (lw_at lw_m2 126 rfl) rfl
theorem q513 : (Jvm.Cond.soleField "VerbAtDusk$State" "this$0") ∈ lw_all := lw_g (lw_at lw_m2 127 rfl) rfl
theorem q514 : (Jvm.Cond.superclass "VerbAtDusk$State" "java/lang/Object") ∈ lw_all := lw_g (lw_at lw_m2 128 rfl) rfl
theorem q517 : (Jvm.Cond.fieldLinkNest "VerbAtDusk$State" (43 : Nat) "VerbAtDusk" "country" "LVerbAtDusk$Country;" "VerbAtDusk") ∈ lw_tbl := lw_at lw_m2 131 rfl
theorem q526 : (Jvm.Cond.fieldLinkNest "VerbAtDusk$State" (77 : Nat) "VerbAtDusk" "moment" "LVerbAtDusk$Moment;" "VerbAtDusk") ∈ lw_tbl := lw_at lw_m2 140 rfl
theorem q531 : (Jvm.Cond.fieldLinkNest "VerbAtDusk$State" (141 : Nat) "VerbAtDusk" "walk" "LVerbAtDusk$Walk;" "VerbAtDusk") ∈ lw_tbl := lw_at lw_m2 145 rfl
theorem q533 : (Jvm.Cond.fieldLinkNest "VerbAtDusk$State" (154 : Nat) "VerbAtDusk" "giving" "LVerbAtDusk$Giving;" "VerbAtDusk") ∈ lw_tbl := lw_at lw_m2 147 rfl
theorem q896 : (Jvm.Cond.fieldLinkNest "VerbAtDusk$State" (68 : Nat) "VerbAtDusk$Saying" "column" "I" "VerbAtDusk") ∈ lw_tbl := lw_at lw_m4 30 rfl
theorem q898 : (Jvm.Cond.fieldLinkNest "VerbAtDusk$State" (70 : Nat) "VerbAtDusk$Saying" "row" "I" "VerbAtDusk") ∈ lw_tbl := lw_at lw_m4 32 rfl
theorem q900 : (Jvm.Cond.fieldLinkNest "VerbAtDusk$State" (72 : Nat) "VerbAtDusk$Saying" "tone" "I" "VerbAtDusk") ∈ lw_tbl := lw_at lw_m4 34 rfl
theorem q966 : (Jvm.Cond.selects "VerbAtDusk$State" ({ cls := "java/lang/Object", name := "getClass", desc := "()Ljava/lang/Class;" } : Jvm.MethodName) ({ cls := "java/lang/Object", name := "getClass", desc := "()Ljava/lang/Class;" } : Jvm.MethodName)) ∈ lw_all := lw_g (lw_at lw_m4 100 rfl) rfl
theorem q997 : (Jvm.Cond.fieldLinkNest "VerbAtDusk$State" (91 : Nat) "VerbAtDusk$Verb" "kind" "I" "VerbAtDusk") ∈ lw_tbl := lw_at lw_m4 131 rfl
theorem q1000 : (Jvm.Cond.fieldLinkNest "VerbAtDusk$State" (94 : Nat) "VerbAtDusk$Verb" "mild" "I" "VerbAtDusk") ∈ lw_tbl := lw_at lw_m4 134 rfl
theorem q1285 : (Jvm.Cond.instanceMethod ({ cls := "VerbAtDusk$State", name := "begins", desc := "()V" } : Jvm.MethodName)) ∈ lw_all := lw_g (lw_at lw_m5 179 rfl) rfl
theorem q1286 : (Jvm.Cond.selects "VerbAtDusk$State" ({ cls := "VerbAtDusk$State", name := "begins", desc := "()V" } : Jvm.MethodName) ({ cls := "VerbAtDusk$State", name := "begins", desc := "()V" } : Jvm.MethodName)) ∈ lw_all := lw_g (lw_at lw_m5 180 rfl) rfl
theorem q1287 : (Jvm.Cond.code ({ cls := "VerbAtDusk$State", name := "begins", desc := "()V" } : Jvm.MethodName) prog_18_method_2_code (3 : Nat) (Option.none : Option Jvm.ClassFile.FieldType)) ∈ lw_all := lw_g (lw_at lw_m5 181 rfl) rfl
theorem q1288 : (Jvm.Cond.methodLinkNest "VerbAtDusk$State" (53 : Nat) ({ cls := "VerbAtDusk", name := "sayings", desc := "()I" } : Jvm.MethodName) "VerbAtDusk") ∈ lw_tbl := lw_at lw_m5 182 rfl
theorem q1294 : (Jvm.Cond.interfaceEntry "VerbAtDusk$State" (60 : Nat)) ∈ lw_tbl := lw_at lw_m5 188 rfl
theorem q1295 : (Jvm.Cond.methodLink "VerbAtDusk$State" (60 : Nat) ({ cls := "java/util/List", name := "get", desc := "(I)Ljava/lang/Object;" } : Jvm.MethodName)) ∈ lw_all := lw_g (lw_at lw_m5 189 rfl) rfl
theorem q1296 : (Jvm.Cond.classLink "VerbAtDusk$State" (66 : Nat) "VerbAtDusk$Saying") ∈ lw_all := lw_g (lw_at lw_m5 190 rfl) rfl
theorem q1361 : (Jvm.Cond.instanceMethod ({ cls := "VerbAtDusk$State", name := "can", desc := "(II)Z" } : Jvm.MethodName)) ∈ lw_all := lw_g (lw_at lw_m6 15 rfl) rfl
theorem q1362 : (Jvm.Cond.selects "VerbAtDusk$State" ({ cls := "VerbAtDusk$State", name := "can", desc := "(II)Z" } : Jvm.MethodName) ({ cls := "VerbAtDusk$State", name := "can", desc := "(II)Z" } : Jvm.MethodName)) ∈ lw_all := lw_g (lw_at lw_m6 16 rfl) rfl
theorem q1363 : (Jvm.Cond.code ({ cls := "VerbAtDusk$State", name := "can", desc := "(II)Z" } : Jvm.MethodName) prog_18_method_6_code (3 : Nat) (Option.some Jvm.ClassFile.FieldType.boolean)) ∈ lw_all := lw_g (lw_at lw_m6 17 rfl) rfl
theorem q1364 : (Jvm.Cond.methodLink "VerbAtDusk$State" (101 : Nat) ({ cls := "VerbAtDusk$State", name := "asks", desc := "(II)V" } : Jvm.MethodName)) ∈ lw_all := lw_g (lw_at lw_m6 18 rfl) rfl
theorem q1365 : (Jvm.Cond.privateMethod ({ cls := "VerbAtDusk$State", name := "asks", desc := "(II)V" } : Jvm.MethodName)) ∈ lw_tbl := lw_at lw_m6 19 rfl
theorem q1366 : (Jvm.Cond.instanceMethod ({ cls := "VerbAtDusk$State", name := "asks", desc := "(II)V" } : Jvm.MethodName)) ∈ lw_all := lw_g (lw_at lw_m6 20 rfl) rfl
theorem q1367 : (Jvm.Cond.code ({ cls := "VerbAtDusk$State", name := "asks", desc := "(II)V" } : Jvm.MethodName) prog_18_method_5_code (3 : Nat) (Option.none : Option Jvm.ClassFile.FieldType)) ∈ lw_all := lw_g (lw_at lw_m6 21 rfl) rfl
theorem q1368 : (Jvm.Cond.classLink "VerbAtDusk$State" (89 : Nat) "VerbAtDusk$Verb") ∈ lw_all := lw_g (lw_at lw_m6 22 rfl) rfl
theorem q1369 : (Jvm.Cond.methodLink "VerbAtDusk$State" (105 : Nat) ({ cls := "VerbAtDusk$Test", name := "holds", desc := "(LVerbAtDusk$Moment;)Z" } : Jvm.MethodName)) ∈ lw_all := lw_g (lw_at lw_m6 23 rfl) rfl
theorem q1426 : (Jvm.Cond.instanceMethod ({ cls := "VerbAtDusk$State", name := "well", desc := "(II)J" } : Jvm.MethodName)) ∈ lw_all := lw_g (lw_at lw_m6 80 rfl) rfl
theorem q1427 : (Jvm.Cond.selects "VerbAtDusk$State" ({ cls := "VerbAtDusk$State", name := "well", desc := "(II)J" } : Jvm.MethodName) ({ cls := "VerbAtDusk$State", name := "well", desc := "(II)J" } : Jvm.MethodName)) ∈ lw_all := lw_g (lw_at lw_m6 81 rfl) rfl
theorem q1428 : (Jvm.Cond.code ({ cls := "VerbAtDusk$State", name := "well", desc := "(II)J" } : Jvm.MethodName) prog_18_method_7_code (3 : Nat) (Option.some Jvm.ClassFile.FieldType.long)) ∈ lw_all := lw_g (lw_at lw_m6 82 rfl) rfl
theorem q1429 : (Jvm.Cond.methodLink "VerbAtDusk$State" (115 : Nat) ({ cls := "VerbAtDusk$Value", name := "at", desc := "(LVerbAtDusk$Moment;)J" } : Jvm.MethodName)) ∈ lw_all := lw_g (lw_at lw_m6 83 rfl) rfl
theorem q1457 : (Jvm.Cond.instanceMethod ({ cls := "VerbAtDusk$State", name := "sack", desc := "()I" } : Jvm.MethodName)) ∈ lw_all := lw_g (lw_at lw_m6 111 rfl) rfl
theorem q1458 : (Jvm.Cond.selects "VerbAtDusk$State" ({ cls := "VerbAtDusk$State", name := "sack", desc := "()I" } : Jvm.MethodName) ({ cls := "VerbAtDusk$State", name := "sack", desc := "()I" } : Jvm.MethodName)) ∈ lw_all := lw_g (lw_at lw_m6 112 rfl) rfl
theorem q1459 : (Jvm.Cond.code ({ cls := "VerbAtDusk$State", name := "sack", desc := "()I" } : Jvm.MethodName) prog_18_method_4_code (1 : Nat) (Option.some Jvm.ClassFile.FieldType.int)) ∈ lw_all := lw_g (lw_at lw_m6 113 rfl) rfl
theorem q1460 : (Jvm.Cond.methodLinkNest "VerbAtDusk$State" (74 : Nat) ({ cls := "VerbAtDusk", name := "verbs", desc := "()I" } : Jvm.MethodName) "VerbAtDusk") ∈ lw_tbl := lw_at lw_m6 114 rfl
theorem q1561 : (Jvm.Cond.instanceMethod ({ cls := "VerbAtDusk$State", name := "copy", desc := "(LVerbAtDusk$State;)LVerbAtDusk$State;" } : Jvm.MethodName)) ∈ lw_all := lw_g (lw_at lw_m6 215 rfl) rfl
theorem q1562 : (Jvm.Cond.selects "VerbAtDusk$State" ({ cls := "VerbAtDusk$State", name := "copy", desc := "(LVerbAtDusk$State;)LVerbAtDusk$State;" } : Jvm.MethodName) ({ cls := "VerbAtDusk$State", name := "copy", desc := "(LVerbAtDusk$State;)LVerbAtDusk$State;" } : Jvm.MethodName)) ∈ lw_all := lw_g (lw_at lw_m6 216 rfl) rfl
theorem q1563 : (Jvm.Cond.code ({ cls := "VerbAtDusk$State", name := "copy", desc := "(LVerbAtDusk$State;)LVerbAtDusk$State;" } : Jvm.MethodName) prog_18_method_3_code (4 : Nat) (Option.some (Jvm.ClassFile.FieldType.object "VerbAtDusk$State"))) ∈ lw_all := lw_g (lw_at lw_m6 217 rfl) rfl
theorem q1573 : (Jvm.Cond.instanceMethod ({ cls := "VerbAtDusk$State", name := "passes", desc := "()I" } : Jvm.MethodName)) ∈ lw_all := lw_g (lw_at lw_m6 227 rfl) rfl
theorem q1574 : (Jvm.Cond.selects "VerbAtDusk$State" ({ cls := "VerbAtDusk$State", name := "passes", desc := "()I" } : Jvm.MethodName) ({ cls := "VerbAtDusk$State", name := "passes", desc := "()I" } : Jvm.MethodName)) ∈ lw_all := lw_g (lw_at lw_m6 228 rfl) rfl
theorem q1575 : (Jvm.Cond.code ({ cls := "VerbAtDusk$State", name := "passes", desc := "()I" } : Jvm.MethodName) prog_18_method_10_code (5 : Nat) (Option.some Jvm.ClassFile.FieldType.int)) ∈ lw_all := lw_g (lw_at lw_m6 229 rfl) rfl
theorem q1576 : (Jvm.Cond.methodLink "VerbAtDusk$State" (145 : Nat) ({ cls := "VerbAtDusk$Walk", name := "by", desc := "(LVerbAtDusk$State;)LVerbAtDusk$Walk;" } : Jvm.MethodName)) ∈ lw_all := lw_g (lw_at lw_m6 230 rfl) rfl
theorem q1577 : (Jvm.Cond.methodLink "VerbAtDusk$State" (151 : Nat) ({ cls := "VerbAtDusk$Walk", name := "dark", desc := "()I" } : Jvm.MethodName)) ∈ lw_all := lw_g (lw_at lw_m6 231 rfl) rfl
theorem q1578 : (Jvm.Cond.methodLink "VerbAtDusk$State" (158 : Nat) ({ cls := "VerbAtDusk$Giving", name := "by", desc := "(LVerbAtDusk$State;)LVerbAtDusk$Giving;" } : Jvm.MethodName)) ∈ lw_all := lw_g (lw_at lw_m6 232 rfl) rfl
theorem q1579 : (Jvm.Cond.methodLinkNest "VerbAtDusk$State" (167 : Nat) ({ cls := "VerbAtDusk", name := "has", desc := "(II)Z" } : Jvm.MethodName) "VerbAtDusk") ∈ lw_tbl := lw_at lw_m6 233 rfl
theorem q1580 : (Jvm.Cond.methodLink "VerbAtDusk$State" (174 : Nat) ({ cls := "VerbAtDusk$State", name := "gives", desc := "(II)V" } : Jvm.MethodName)) ∈ lw_all := lw_g (lw_at lw_m6 234 rfl) rfl
theorem q1581 : (Jvm.Cond.privateMethod ({ cls := "VerbAtDusk$State", name := "gives", desc := "(II)V" } : Jvm.MethodName)) ∈ lw_tbl := lw_at lw_m6 235 rfl
theorem q1582 : (Jvm.Cond.instanceMethod ({ cls := "VerbAtDusk$State", name := "gives", desc := "(II)V" } : Jvm.MethodName)) ∈ lw_all := lw_g (lw_at lw_m6 236 rfl) rfl
theorem q1583 : (Jvm.Cond.code ({ cls := "VerbAtDusk$State", name := "gives", desc := "(II)V" } : Jvm.MethodName) prog_18_method_9_code (3 : Nat) (Option.none : Option Jvm.ClassFile.FieldType)) ∈ lw_all := lw_g (lw_at lw_m6 237 rfl) rfl
theorem q1584 : (Jvm.Cond.methodLink "VerbAtDusk$State" (121 : Nat) ({ cls := "java/lang/Math", name := "min", desc := "(II)I" } : Jvm.MethodName)) ∈ lw_all := lw_g (lw_at lw_m6 238 rfl) rfl
theorem q1585 : (Jvm.Cond.methodLink "VerbAtDusk$State" (127 : Nat) ({ cls := "VerbAtDusk$State", name := "tells", desc := "(II)V" } : Jvm.MethodName)) ∈ lw_all := lw_g (lw_at lw_m6 239 rfl) rfl
theorem q1586 : (Jvm.Cond.privateMethod ({ cls := "VerbAtDusk$State", name := "tells", desc := "(II)V" } : Jvm.MethodName)) ∈ lw_tbl := lw_at lw_m7 0 rfl
theorem q1587 : (Jvm.Cond.instanceMethod ({ cls := "VerbAtDusk$State", name := "tells", desc := "(II)V" } : Jvm.MethodName)) ∈ lw_all := lw_g (lw_at lw_m7 1 rfl) rfl
theorem q1588 : (Jvm.Cond.code ({ cls := "VerbAtDusk$State", name := "tells", desc := "(II)V" } : Jvm.MethodName) prog_18_method_8_code (5 : Nat) (Option.none : Option Jvm.ClassFile.FieldType)) ∈ lw_all := lw_g (lw_at lw_m7 2 rfl) rfl
theorem q1589 : (Jvm.Cond.constantLong "VerbAtDusk$State" (133 : Nat) (9 : Int64)) ∈ lw_all := lw_g (lw_at lw_m7 3 rfl) rfl
theorem q1590 : (Jvm.Cond.methodLink "VerbAtDusk$State" (135 : Nat) ({ cls := "java/lang/Math", name := "min", desc := "(JJ)J" } : Jvm.MethodName)) ∈ lw_all := lw_g (lw_at lw_m7 4 rfl) rfl
theorem q1591 : (Jvm.Cond.methodLink "VerbAtDusk$State" (138 : Nat) ({ cls := "java/lang/Math", name := "max", desc := "(JJ)J" } : Jvm.MethodName)) ∈ lw_all := lw_g (lw_at lw_m7 5 rfl) rfl
theorem q1660 : (Jvm.Cond.instanceMethod ({ cls := "VerbAtDusk$State", name := "spills", desc := "()V" } : Jvm.MethodName)) ∈ lw_all := lw_g (lw_at lw_m7 74 rfl) rfl
theorem q1661 : (Jvm.Cond.selects "VerbAtDusk$State" ({ cls := "VerbAtDusk$State", name := "spills", desc := "()V" } : Jvm.MethodName) ({ cls := "VerbAtDusk$State", name := "spills", desc := "()V" } : Jvm.MethodName)) ∈ lw_all := lw_g (lw_at lw_m7 75 rfl) rfl
theorem q1662 : (Jvm.Cond.code ({ cls := "VerbAtDusk$State", name := "spills", desc := "()V" } : Jvm.MethodName) prog_18_method_11_code (5 : Nat) (Option.none : Option Jvm.ClassFile.FieldType)) ∈ lw_all := lw_g (lw_at lw_m7 76 rfl) rfl
theorem q1663 : (Jvm.Cond.methodLink "VerbAtDusk$State" (177 : Nat) ({ cls := "VerbAtDusk$State", name := "sack", desc := "()I" } : Jvm.MethodName)) ∈ lw_all := lw_g (lw_at lw_m7 77 rfl) rfl
theorem q1664 : (Jvm.Cond.methodLink "VerbAtDusk$State" (180 : Nat) ({ cls := "java/lang/Integer", name := "bitCount", desc := "(I)I" } : Jvm.MethodName)) ∈ lw_all := lw_g (lw_at lw_m7 78 rfl) rfl
theorem q1665 : (Jvm.Cond.methodLinkNest "VerbAtDusk$State" (186 : Nat) ({ cls := "VerbAtDusk", name := "draw", desc := "(I)I" } : Jvm.MethodName) "VerbAtDusk") ∈ lw_tbl := lw_at lw_m7 79 rfl
theorem q2641 : (Jvm.Cond.castable "VerbAtDusk$State" "java/lang/Object") ∈ lw_tbl := lw_at lw_m11 95 rfl
theorem in_X7 : ∀ w ∈ wsX70, w ∈ lw_all := lw_in wsX70 [494, 496, 498, 500, 502, 504, 506, 508, 510, 512] (by decide +kernel) (by decide +kernel)
/-! VerbAtDusk$Named -/
set_option maxRecDepth 100000
def RX9 : String := "VerbAtDusk$Named"
abbrev cX9_find : ByteArray := prog_12_method_2_code
def yX9_find : MethodName := ⟨RX9, "find", "(Ljava/util/List;Ljava/lang/String;)I"⟩
def dkwX9_find_1 : List UInt8 := [180, 0, 9, 43, 182, 0, 25, 153, 0, 5, 28, 172, 132, 2, 1, 167, 255, 221, 2, 172]
abbrev dktX9_find_1 : List UInt8 := dkwX9_find_1 ++ []
def dkwX9_find_0 : List UInt8 := [3, 61, 28, 42, 185, 0, 15, 1, 0, 162, 0, 31, 42, 28, 185, 0, 21, 2, 0, 192, 0, 10]
abbrev dktX9_find_0 : List UInt8 := dkwX9_find_0 ++ dktX9_find_1
theorem dksX9_find_0 : cX9_find.data.toList.drop 0 = dktX9_find_0 := by decide +kernel
theorem dksX9_find_1 : cX9_find.data.toList.drop 22 = dktX9_find_1 := dk_seg dksX9_find_0 22 rfl rfl
theorem dX9_find_0 : decode cX9_find 0 = .ok (.iconst 0, 1) := dk_3 (dk_at dksX9_find_0 0 rfl rfl)
theorem dX9_find_1 : decode cX9_find 1 = .ok (.istore_n 2, 1) := dk_61 (dk_at dksX9_find_0 1 rfl rfl)
theorem dX9_find_2 : decode cX9_find 2 = .ok (.iload_n 2, 1) := dk_28 (dk_at dksX9_find_0 2 rfl rfl)
theorem dX9_find_3 : decode cX9_find 3 = .ok (.aload_n 0, 1) := dk_42 (dk_at dksX9_find_0 3 rfl rfl)
theorem dX9_find_4 : decode cX9_find 4 = .ok (.invokeinterface 15 1, 5) := by decide +kernel
theorem dX9_find_9 : decode cX9_find 9 = .ok (.if_icmp .ge 31, 3) := dk_162 0 31 (dk_at dksX9_find_0 9 rfl rfl)
theorem dX9_find_12 : decode cX9_find 12 = .ok (.aload_n 0, 1) := dk_42 (dk_at dksX9_find_0 12 rfl rfl)
theorem dX9_find_13 : decode cX9_find 13 = .ok (.iload_n 2, 1) := dk_28 (dk_at dksX9_find_0 13 rfl rfl)
theorem dX9_find_14 : decode cX9_find 14 = .ok (.invokeinterface 21 2, 5) := by decide +kernel
theorem dX9_find_19 : decode cX9_find 19 = .ok (.checkcast 10, 3) := dk_192 0 10 (dk_at dksX9_find_0 19 rfl rfl)
theorem dX9_find_22 : decode cX9_find 22 = .ok (.getfield 9, 3) := dk_180 0 9 (dk_at dksX9_find_1 0 rfl rfl)
theorem dX9_find_25 : decode cX9_find 25 = .ok (.aload_n 1, 1) := dk_43 (dk_at dksX9_find_1 3 rfl rfl)
theorem dX9_find_26 : decode cX9_find 26 = .ok (.invokevirtual 25, 3) := dk_182 0 25 (dk_at dksX9_find_1 4 rfl rfl)
theorem dX9_find_29 : decode cX9_find 29 = .ok (.ifCond .eq 5, 3) := dk_153 0 5 (dk_at dksX9_find_1 7 rfl rfl)
theorem dX9_find_32 : decode cX9_find 32 = .ok (.iload_n 2, 1) := dk_28 (dk_at dksX9_find_1 10 rfl rfl)
theorem dX9_find_33 : decode cX9_find 33 = .ok (.ireturn, 1) := dk_172 (dk_at dksX9_find_1 11 rfl rfl)
theorem dX9_find_34 : decode cX9_find 34 = .ok (.iinc 2 1, 3) := dk_132 2 1 (dk_at dksX9_find_1 12 rfl rfl)
theorem dX9_find_37 : decode cX9_find 37 = .ok (.goto (-35), 3) := dk_167 255 221 (dk_at dksX9_find_1 15 rfl rfl)
theorem dX9_find_40 : decode cX9_find 40 = .ok (.iconst (-1), 1) := dk_2 (dk_at dksX9_find_1 18 rfl rfl)
theorem dX9_find_41 : decode cX9_find 41 = .ok (.ireturn, 1) := dk_172 (dk_at dksX9_find_1 19 rfl rfl)
abbrev cX9_init : ByteArray := prog_12_method_1_code
def yX9_init : MethodName := ⟨RX9, "<init>", "(Ljava/lang/String;)V"⟩
def dkwX9_init_0 : List UInt8 := [42, 183, 0, 3, 42, 43, 181, 0, 9, 177]
abbrev dktX9_init_0 : List UInt8 := dkwX9_init_0 ++ []
theorem dksX9_init_0 : cX9_init.data.toList.drop 0 = dktX9_init_0 := by decide +kernel
theorem dX9_init_0 : decode cX9_init 0 = .ok (.aload_n 0, 1) := dk_42 (dk_at dksX9_init_0 0 rfl rfl)
theorem dX9_init_1 : decode cX9_init 1 = .ok (.invokespecial 3, 3) := dk_183 0 3 (dk_at dksX9_init_0 1 rfl rfl)
theorem dX9_init_4 : decode cX9_init 4 = .ok (.aload_n 0, 1) := dk_42 (dk_at dksX9_init_0 4 rfl rfl)
theorem dX9_init_5 : decode cX9_init 5 = .ok (.aload_n 1, 1) := dk_43 (dk_at dksX9_init_0 5 rfl rfl)
theorem dX9_init_6 : decode cX9_init 6 = .ok (.putfield 9, 3) := dk_181 0 9 (dk_at dksX9_init_0 6 rfl rfl)
theorem dX9_init_9 : decode cX9_init 9 = .ok (.return_, 1) := dk_177 (dk_at dksX9_init_0 9 rfl rfl)
abbrev cX9_letter : ByteArray := prog_12_method_3_code
def yX9_letter : MethodName := ⟨RX9, "letter", "(I)I"⟩
def dkwX9_letter_1 : List UInt8 := [167, 0, 4, 3, 172]
abbrev dktX9_letter_1 : List UInt8 := dkwX9_letter_1 ++ []
def dkwX9_letter_0 : List UInt8 := [27, 42, 180, 0, 9, 182, 0, 31, 162, 0, 19, 42, 180, 0, 9, 27, 182, 0, 34, 16, 97, 100, 4, 96]
abbrev dktX9_letter_0 : List UInt8 := dkwX9_letter_0 ++ dktX9_letter_1
theorem dksX9_letter_0 : cX9_letter.data.toList.drop 0 = dktX9_letter_0 := by decide +kernel
theorem dksX9_letter_1 : cX9_letter.data.toList.drop 24 = dktX9_letter_1 := dk_seg dksX9_letter_0 24 rfl rfl
theorem dX9_letter_0 : decode cX9_letter 0 = .ok (.iload_n 1, 1) := dk_27 (dk_at dksX9_letter_0 0 rfl rfl)
theorem dX9_letter_1 : decode cX9_letter 1 = .ok (.aload_n 0, 1) := dk_42 (dk_at dksX9_letter_0 1 rfl rfl)
theorem dX9_letter_2 : decode cX9_letter 2 = .ok (.getfield 9, 3) := dk_180 0 9 (dk_at dksX9_letter_0 2 rfl rfl)
theorem dX9_letter_5 : decode cX9_letter 5 = .ok (.invokevirtual 31, 3) := dk_182 0 31 (dk_at dksX9_letter_0 5 rfl rfl)
theorem dX9_letter_8 : decode cX9_letter 8 = .ok (.if_icmp .ge 19, 3) := dk_162 0 19 (dk_at dksX9_letter_0 8 rfl rfl)
theorem dX9_letter_11 : decode cX9_letter 11 = .ok (.aload_n 0, 1) := dk_42 (dk_at dksX9_letter_0 11 rfl rfl)
theorem dX9_letter_12 : decode cX9_letter 12 = .ok (.getfield 9, 3) := dk_180 0 9 (dk_at dksX9_letter_0 12 rfl rfl)
theorem dX9_letter_15 : decode cX9_letter 15 = .ok (.iload_n 1, 1) := dk_27 (dk_at dksX9_letter_0 15 rfl rfl)
theorem dX9_letter_16 : decode cX9_letter 16 = .ok (.invokevirtual 34, 3) := dk_182 0 34 (dk_at dksX9_letter_0 16 rfl rfl)
theorem dX9_letter_19 : decode cX9_letter 19 = .ok (.bipush 97, 2) := dk_16 97 (dk_at dksX9_letter_0 19 rfl rfl)
theorem dX9_letter_21 : decode cX9_letter 21 = .ok (.isub, 1) := dk_100 (dk_at dksX9_letter_0 21 rfl rfl)
theorem dX9_letter_22 : decode cX9_letter 22 = .ok (.iconst 1, 1) := dk_4 (dk_at dksX9_letter_0 22 rfl rfl)
theorem dX9_letter_23 : decode cX9_letter 23 = .ok (.iadd, 1) := dk_96 (dk_at dksX9_letter_0 23 rfl rfl)
theorem dX9_letter_24 : decode cX9_letter 24 = .ok (.goto 4, 3) := dk_167 0 4 (dk_at dksX9_letter_1 0 rfl rfl)
theorem dX9_letter_27 : decode cX9_letter 27 = .ok (.iconst 0, 1) := dk_3 (dk_at dksX9_letter_1 3 rfl rfl)
theorem dX9_letter_28 : decode cX9_letter 28 = .ok (.ireturn, 1) := dk_172 (dk_at dksX9_letter_1 4 rfl rfl)
theorem q167 : (Jvm.Cond.initialized "VerbAtDusk$Named") ∈ lw_all := lw_g (lw_at lw_m1 21 rfl) rfl
theorem q855 : (Jvm.Cond.static ({ cls := "VerbAtDusk$Named", name := "find", desc := "(Ljava/util/List;Ljava/lang/String;)I" } : Jvm.MethodName)) ∈ lw_all := lw_g (lw_at lw_m3 229 rfl) rfl
theorem q856 : (Jvm.Cond.code ({ cls := "VerbAtDusk$Named", name := "find", desc := "(Ljava/util/List;Ljava/lang/String;)I" } : Jvm.MethodName) prog_12_method_2_code (3 : Nat) (Option.some Jvm.ClassFile.FieldType.int)) ∈ lw_all := lw_g (lw_at lw_m3 230 rfl) rfl
theorem q857 : (Jvm.Cond.interfaceEntry "VerbAtDusk$Named" (15 : Nat)) ∈ lw_tbl := lw_at lw_m3 231 rfl
theorem q858 : (Jvm.Cond.methodLink "VerbAtDusk$Named" (15 : Nat) ({ cls := "java/util/List", name := "size", desc := "()I" } : Jvm.MethodName)) ∈ lw_all := lw_g (lw_at lw_m3 232 rfl) rfl
theorem q859 : (Jvm.Cond.interfaceEntry "VerbAtDusk$Named" (21 : Nat)) ∈ lw_tbl := lw_at lw_m3 233 rfl
theorem q860 : (Jvm.Cond.methodLink "VerbAtDusk$Named" (21 : Nat) ({ cls := "java/util/List", name := "get", desc := "(I)Ljava/lang/Object;" } : Jvm.MethodName)) ∈ lw_all := lw_g (lw_at lw_m3 234 rfl) rfl
theorem q878 : (Jvm.Cond.classLink "VerbAtDusk$Named" (10 : Nat) "VerbAtDusk$Named") ∈ lw_all := lw_g (lw_at lw_m4 12 rfl) rfl
theorem q879 : (Jvm.Cond.methodLink "VerbAtDusk$Named" (25 : Nat) ({ cls := "java/lang/String", name := "equals", desc := "(Ljava/lang/Object;)Z" } : Jvm.MethodName)) ∈ lw_all := lw_g (lw_at lw_m4 13 rfl) rfl
theorem q892 : (Jvm.Cond.instanceMethod ({ cls := "VerbAtDusk$Named", name := "<init>", desc := "(Ljava/lang/String;)V" } : Jvm.MethodName)) ∈ lw_all := lw_g (lw_at lw_m4 26 rfl) rfl
theorem q893 : (Jvm.Cond.code ({ cls := "VerbAtDusk$Named", name := "<init>", desc := "(Ljava/lang/String;)V" } : Jvm.MethodName) prog_12_method_1_code (2 : Nat) (Option.none : Option Jvm.ClassFile.FieldType)) ∈ lw_all := lw_g (lw_at lw_m4 27 rfl) rfl
theorem q894 : (Jvm.Cond.methodLink "VerbAtDusk$Named" (3 : Nat) ({ cls := "java/lang/Object", name := "<init>", desc := "()V" } : Jvm.MethodName)) ∈ lw_all := lw_g (lw_at lw_m4 28 rfl) rfl
theorem q901 : (Jvm.Cond.fieldLink "VerbAtDusk$Named" (9 : Nat) "VerbAtDusk$Named" "name" "Ljava/lang/String;") ∈ lw_all := lw_g (lw_at lw_m4 35 rfl) rfl
theorem q909 : (Jvm.Cond.soleField "VerbAtDusk$Named" "name") ∈ lw_all := lw_g (lw_at lw_m4 43 rfl) rfl
theorem q1325 : (Jvm.Cond.instanceMethod ({ cls := "VerbAtDusk$Named", name := "letter", desc := "(I)I" } : Jvm.MethodName)) ∈ lw_all := lw_g (lw_at lw_m5 219 rfl) rfl
theorem q1326 : (Jvm.Cond.sameMethod "VerbAtDusk$Named" "VerbAtDusk$Named" "letter" "(I)I") ∈ lw_all := lw_g (lw_at lw_m5 220 rfl) rfl
theorem q1329 : (Jvm.Cond.code ({ cls := "VerbAtDusk$Named", name := "letter", desc := "(I)I" } : Jvm.MethodName) prog_12_method_3_code (2 : Nat) (Option.some Jvm.ClassFile.FieldType.int)) ∈ lw_all := lw_g (lw_at lw_m5 223 rfl) rfl
theorem q1330 : (Jvm.Cond.methodLink "VerbAtDusk$Named" (31 : Nat) ({ cls := "java/lang/String", name := "length", desc := "()I" } : Jvm.MethodName)) ∈ lw_all := lw_g (lw_at lw_m5 224 rfl) rfl
theorem q1331 : (Jvm.Cond.methodLink "VerbAtDusk$Named" (34 : Nat) ({ cls := "java/lang/String", name := "charAt", desc := "(I)C" } : Jvm.MethodName)) ∈ lw_all := lw_g (lw_at lw_m5 225 rfl) rfl
/-! VerbAtDusk$Saying -/
set_option maxRecDepth 100000
def RX10 : String := "VerbAtDusk$Saying"
def TX10 : u_T := fun k => match k with
  | 0 => ("VerbAtDusk$Named", "name", "Ljava/lang/String;", true)
  | 1 => ("VerbAtDusk$Saying", "column", "I", true)
  | 2 => ("VerbAtDusk$Saying", "row", "I", true)
  | _ => ("VerbAtDusk$Saying", "tone", "I", true)
def tyX10 : Nat → FieldType := fun k => match k with
  | 0 => .object "java/lang/String"
  | 1 => .int
  | 2 => .int
  | _ => .int
abbrev wsX100 : List Cond := u_ws RX10 TX10 4
theorem nmX10 : ∀ a, a < 4 → ∀ b, b < 4 → a ≠ b → (TX10 a).2.1 ≠ (TX10 b).2.1 := by decide +kernel
theorem tyX10_ok : ∀ k, k < 4 → parseFieldDescriptor (TX10 k).2.2.1 = some (tyX10 k) := by decide +kernel
abbrev cX10_init : ByteArray := prog_17_method_1_code
def yX10_init : MethodName := ⟨RX10, "<init>", "(Ljava/lang/String;III)V"⟩
def dkwX10_init_0 : List UInt8 := [42, 43, 183, 0, 1, 42, 28, 181, 0, 7, 42, 29, 181, 0, 13, 42, 21, 4, 181, 0, 16, 177]
abbrev dktX10_init_0 : List UInt8 := dkwX10_init_0 ++ []
theorem dksX10_init_0 : cX10_init.data.toList.drop 0 = dktX10_init_0 := by decide +kernel
theorem dX10_init_0 : decode cX10_init 0 = .ok (.aload_n 0, 1) := dk_42 (dk_at dksX10_init_0 0 rfl rfl)
theorem dX10_init_1 : decode cX10_init 1 = .ok (.aload_n 1, 1) := dk_43 (dk_at dksX10_init_0 1 rfl rfl)
theorem dX10_init_2 : decode cX10_init 2 = .ok (.invokespecial 1, 3) := dk_183 0 1 (dk_at dksX10_init_0 2 rfl rfl)
theorem dX10_init_5 : decode cX10_init 5 = .ok (.aload_n 0, 1) := dk_42 (dk_at dksX10_init_0 5 rfl rfl)
theorem dX10_init_6 : decode cX10_init 6 = .ok (.iload_n 2, 1) := dk_28 (dk_at dksX10_init_0 6 rfl rfl)
theorem dX10_init_7 : decode cX10_init 7 = .ok (.putfield 7, 3) := dk_181 0 7 (dk_at dksX10_init_0 7 rfl rfl)
theorem dX10_init_10 : decode cX10_init 10 = .ok (.aload_n 0, 1) := dk_42 (dk_at dksX10_init_0 10 rfl rfl)
theorem dX10_init_11 : decode cX10_init 11 = .ok (.iload_n 3, 1) := dk_29 (dk_at dksX10_init_0 11 rfl rfl)
theorem dX10_init_12 : decode cX10_init 12 = .ok (.putfield 13, 3) := dk_181 0 13 (dk_at dksX10_init_0 12 rfl rfl)
theorem dX10_init_15 : decode cX10_init 15 = .ok (.aload_n 0, 1) := dk_42 (dk_at dksX10_init_0 15 rfl rfl)
theorem dX10_init_16 : decode cX10_init 16 = .ok (.iload 4, 2) := dk_21 4 (dk_at dksX10_init_0 16 rfl rfl)
theorem dX10_init_18 : decode cX10_init 18 = .ok (.putfield 16, 3) := dk_181 0 16 (dk_at dksX10_init_0 18 rfl rfl)
theorem dX10_init_21 : decode cX10_init 21 = .ok (.return_, 1) := dk_177 (dk_at dksX10_init_0 21 rfl rfl)
theorem q169 : (Jvm.Cond.initialized "VerbAtDusk$Saying") ∈ lw_all := lw_g (lw_at lw_m1 23 rfl) rfl
theorem q886 : (Jvm.Cond.instantiable "VerbAtDusk$Saying" (4 : Nat)) ∈ lw_all := lw_g (lw_at lw_m4 20 rfl) rfl
theorem q889 : (Jvm.Cond.instanceMethod ({ cls := "VerbAtDusk$Saying", name := "<init>", desc := "(Ljava/lang/String;III)V" } : Jvm.MethodName)) ∈ lw_all := lw_g (lw_at lw_m4 23 rfl) rfl
theorem q890 : (Jvm.Cond.code ({ cls := "VerbAtDusk$Saying", name := "<init>", desc := "(Ljava/lang/String;III)V" } : Jvm.MethodName) prog_17_method_1_code (5 : Nat) (Option.none : Option Jvm.ClassFile.FieldType)) ∈ lw_all := lw_g (lw_at lw_m4 24 rfl) rfl
theorem q891 : (Jvm.Cond.methodLink "VerbAtDusk$Saying" (1 : Nat) ({ cls := "VerbAtDusk$Named", name := "<init>", desc := "(Ljava/lang/String;)V" } : Jvm.MethodName)) ∈ lw_all := lw_g (lw_at lw_m4 25 rfl) rfl
theorem q895 : (Jvm.Cond.fieldLink "VerbAtDusk$Saying" (7 : Nat) "VerbAtDusk$Saying" "column" "I") ∈ lw_all := lw_g (lw_at lw_m4 29 rfl) rfl
theorem q897 : (Jvm.Cond.fieldLink "VerbAtDusk$Saying" (13 : Nat) "VerbAtDusk$Saying" "row" "I") ∈ lw_all := lw_g (lw_at lw_m4 31 rfl) rfl
theorem q899 : (Jvm.Cond.fieldLink "VerbAtDusk$Saying" (16 : Nat) "VerbAtDusk$Saying" "tone" "I") ∈ lw_all := lw_g (lw_at lw_m4 33 rfl) rfl
theorem q902 : (Jvm.Cond.laysFinal "VerbAtDusk$Saying" "VerbAtDusk$Saying" "column" "I") ∈ lw_all := lw_g (lw_at lw_m4 36 rfl) rfl
theorem q903 : (Jvm.Cond.soleField "VerbAtDusk$Saying" "column") ∈ lw_all := lw_g (lw_at lw_m4 37 rfl) rfl
theorem q904 : (Jvm.Cond.laysFinal "VerbAtDusk$Saying" "VerbAtDusk$Saying" "row" "I") ∈ lw_all := lw_g (lw_at lw_m4 38 rfl) rfl
theorem q905 : (Jvm.Cond.soleField "VerbAtDusk$Saying" "row") ∈ lw_all := lw_g (lw_at lw_m4 39 rfl) rfl
theorem q906 : (Jvm.Cond.laysFinal "VerbAtDusk$Saying" "VerbAtDusk$Saying" "tone" "I") ∈ lw_all := lw_g (lw_at lw_m4 40 rfl) rfl
theorem q907 : (Jvm.Cond.soleField "VerbAtDusk$Saying" "tone") ∈ lw_all := lw_g (lw_at lw_m4 41 rfl) rfl
theorem q908 : (Jvm.Cond.laysFinal "VerbAtDusk$Saying" "VerbAtDusk$Named" "name" "Ljava/lang/String;") ∈ lw_all := lw_g (lw_at lw_m4 42 rfl) rfl
theorem q910 : (Jvm.Cond.superclass "VerbAtDusk$Saying" "VerbAtDusk$Named") ∈ lw_all := lw_g (lw_at lw_m4 44 rfl) rfl
theorem q965 : (Jvm.Cond.selects "VerbAtDusk$Saying" ({ cls := "java/lang/Object", name := "getClass", desc := "()Ljava/lang/Class;" } : Jvm.MethodName) ({ cls := "java/lang/Object", name := "getClass", desc := "()Ljava/lang/Class;" } : Jvm.MethodName)) ∈ lw_all := lw_g (lw_at lw_m4 99 rfl) rfl
theorem q1327 : (Jvm.Cond.selects "VerbAtDusk$Saying" ({ cls := "VerbAtDusk$Named", name := "letter", desc := "(I)I" } : Jvm.MethodName) ({ cls := "VerbAtDusk$Named", name := "letter", desc := "(I)I" } : Jvm.MethodName)) ∈ lw_all := lw_g (lw_at lw_m5 221 rfl) rfl
theorem q2630 : (Jvm.Cond.castable "VerbAtDusk$Saying" "VerbAtDusk$Named") ∈ lw_tbl := lw_at lw_m11 84 rfl
theorem q2653 : (Jvm.Cond.castable "VerbAtDusk$Saying" "java/lang/Object") ∈ lw_tbl := lw_at lw_m11 107 rfl
theorem in_X10 : ∀ w ∈ wsX100, w ∈ lw_all := lw_in wsX100 [908, 902, 904, 906] (by decide +kernel) (by decide +kernel)
/-! VerbAtDusk$Verb -/
set_option maxRecDepth 100000
def RX11 : String := "VerbAtDusk$Verb"
def TX11 : u_T := fun k => match k with
  | 0 => ("VerbAtDusk$Named", "name", "Ljava/lang/String;", true)
  | 1 => ("VerbAtDusk$Verb", "kind", "I", true)
  | _ => ("VerbAtDusk$Verb", "mild", "I", true)
def tyX11 : Nat → FieldType := fun k => match k with
  | 0 => .object "java/lang/String"
  | 1 => .int
  | _ => .int
abbrev wsX110 : List Cond := u_ws RX11 TX11 3
theorem nmX11 : ∀ a, a < 3 → ∀ b, b < 3 → a ≠ b → (TX11 a).2.1 ≠ (TX11 b).2.1 := by decide +kernel
theorem tyX11_ok : ∀ k, k < 3 → parseFieldDescriptor (TX11 k).2.2.1 = some (tyX11 k) := by decide +kernel
abbrev cX11_init : ByteArray := prog_22_method_1_code
def yX11_init : MethodName := ⟨RX11, "<init>", "(Ljava/lang/String;II)V"⟩
def dkwX11_init_0 : List UInt8 := [42, 43, 183, 0, 1, 42, 28, 181, 0, 7, 42, 29, 181, 0, 13, 177]
abbrev dktX11_init_0 : List UInt8 := dkwX11_init_0 ++ []
theorem dksX11_init_0 : cX11_init.data.toList.drop 0 = dktX11_init_0 := by decide +kernel
theorem dX11_init_0 : decode cX11_init 0 = .ok (.aload_n 0, 1) := dk_42 (dk_at dksX11_init_0 0 rfl rfl)
theorem dX11_init_1 : decode cX11_init 1 = .ok (.aload_n 1, 1) := dk_43 (dk_at dksX11_init_0 1 rfl rfl)
theorem dX11_init_2 : decode cX11_init 2 = .ok (.invokespecial 1, 3) := dk_183 0 1 (dk_at dksX11_init_0 2 rfl rfl)
theorem dX11_init_5 : decode cX11_init 5 = .ok (.aload_n 0, 1) := dk_42 (dk_at dksX11_init_0 5 rfl rfl)
theorem dX11_init_6 : decode cX11_init 6 = .ok (.iload_n 2, 1) := dk_28 (dk_at dksX11_init_0 6 rfl rfl)
theorem dX11_init_7 : decode cX11_init 7 = .ok (.putfield 7, 3) := dk_181 0 7 (dk_at dksX11_init_0 7 rfl rfl)
theorem dX11_init_10 : decode cX11_init 10 = .ok (.aload_n 0, 1) := dk_42 (dk_at dksX11_init_0 10 rfl rfl)
theorem dX11_init_11 : decode cX11_init 11 = .ok (.iload_n 3, 1) := dk_29 (dk_at dksX11_init_0 11 rfl rfl)
theorem dX11_init_12 : decode cX11_init 12 = .ok (.putfield 13, 3) := dk_181 0 13 (dk_at dksX11_init_0 12 rfl rfl)
theorem dX11_init_15 : decode cX11_init 15 = .ok (.return_, 1) := dk_177 (dk_at dksX11_init_0 15 rfl rfl)
theorem q173 : (Jvm.Cond.initialized "VerbAtDusk$Verb") ∈ lw_all := lw_g (lw_at lw_m1 27 rfl) rfl
theorem q968 : (Jvm.Cond.selects "VerbAtDusk$Verb" ({ cls := "java/lang/Object", name := "getClass", desc := "()Ljava/lang/Class;" } : Jvm.MethodName) ({ cls := "java/lang/Object", name := "getClass", desc := "()Ljava/lang/Class;" } : Jvm.MethodName)) ∈ lw_all := lw_g (lw_at lw_m4 102 rfl) rfl
theorem q990 : (Jvm.Cond.instantiable "VerbAtDusk$Verb" (3 : Nat)) ∈ lw_all := lw_g (lw_at lw_m4 124 rfl) rfl
theorem q993 : (Jvm.Cond.instanceMethod ({ cls := "VerbAtDusk$Verb", name := "<init>", desc := "(Ljava/lang/String;II)V" } : Jvm.MethodName)) ∈ lw_all := lw_g (lw_at lw_m4 127 rfl) rfl
theorem q994 : (Jvm.Cond.code ({ cls := "VerbAtDusk$Verb", name := "<init>", desc := "(Ljava/lang/String;II)V" } : Jvm.MethodName) prog_22_method_1_code (4 : Nat) (Option.none : Option Jvm.ClassFile.FieldType)) ∈ lw_all := lw_g (lw_at lw_m4 128 rfl) rfl
theorem q995 : (Jvm.Cond.methodLink "VerbAtDusk$Verb" (1 : Nat) ({ cls := "VerbAtDusk$Named", name := "<init>", desc := "(Ljava/lang/String;)V" } : Jvm.MethodName)) ∈ lw_all := lw_g (lw_at lw_m4 129 rfl) rfl
theorem q996 : (Jvm.Cond.fieldLink "VerbAtDusk$Verb" (7 : Nat) "VerbAtDusk$Verb" "kind" "I") ∈ lw_all := lw_g (lw_at lw_m4 130 rfl) rfl
theorem q999 : (Jvm.Cond.fieldLink "VerbAtDusk$Verb" (13 : Nat) "VerbAtDusk$Verb" "mild" "I") ∈ lw_all := lw_g (lw_at lw_m4 133 rfl) rfl
theorem q1002 : (Jvm.Cond.laysFinal "VerbAtDusk$Verb" "VerbAtDusk$Verb" "kind" "I") ∈ lw_all := lw_g (lw_at lw_m4 136 rfl) rfl
theorem q1003 : (Jvm.Cond.soleField "VerbAtDusk$Verb" "kind") ∈ lw_all := lw_g (lw_at lw_m4 137 rfl) rfl
theorem q1004 : (Jvm.Cond.laysFinal "VerbAtDusk$Verb" "VerbAtDusk$Verb" "mild" "I") ∈ lw_all := lw_g (lw_at lw_m4 138 rfl) rfl
theorem q1005 : (Jvm.Cond.soleField "VerbAtDusk$Verb" "mild") ∈ lw_all := lw_g (lw_at lw_m4 139 rfl) rfl
theorem q1006 : (Jvm.Cond.laysFinal "VerbAtDusk$Verb" "VerbAtDusk$Named" "name" "Ljava/lang/String;") ∈ lw_all := lw_g (lw_at lw_m4 140 rfl) rfl
theorem q1007 : (Jvm.Cond.superclass "VerbAtDusk$Verb" "VerbAtDusk$Named") ∈ lw_all := lw_g (lw_at lw_m4 141 rfl) rfl
theorem q1328 : (Jvm.Cond.selects "VerbAtDusk$Verb" ({ cls := "VerbAtDusk$Named", name := "letter", desc := "(I)I" } : Jvm.MethodName) ({ cls := "VerbAtDusk$Named", name := "letter", desc := "(I)I" } : Jvm.MethodName)) ∈ lw_all := lw_g (lw_at lw_m5 222 rfl) rfl
theorem q2631 : (Jvm.Cond.castable "VerbAtDusk$Verb" "VerbAtDusk$Named") ∈ lw_tbl := lw_at lw_m11 85 rfl
theorem q2654 : (Jvm.Cond.castable "VerbAtDusk$Verb" "java/lang/Object") ∈ lw_tbl := lw_at lw_m11 108 rfl
theorem in_X11 : ∀ w ∈ wsX110, w ∈ lw_all := lw_in wsX110 [1006, 1002, 1004] (by decide +kernel) (by decide +kernel)
/-! VerbAtDusk$Test -/
set_option maxRecDepth 100000
def RX12 : String := "VerbAtDusk$Test"
abbrev cX12_init : ByteArray := prog_19_method_1_code
def yX12_init : MethodName := ⟨RX12, "<init>", "()V"⟩
theorem dX12_init_0 : decode cX12_init 0 = .ok (.aload_n 0, 1) := by decide +kernel
theorem dX12_init_1 : decode cX12_init 1 = .ok (.invokespecial 1, 3) := by decide +kernel
theorem dX12_init_4 : decode cX12_init 4 = .ok (.return_, 1) := by decide +kernel
theorem q174 : (Jvm.Cond.initialized "VerbAtDusk$Test") ∈ lw_all := lw_g (lw_at lw_m1 28 rfl) rfl
theorem q1030 : (Jvm.Cond.instanceMethod ({ cls := "VerbAtDusk$Test", name := "<init>", desc := "()V" } : Jvm.MethodName)) ∈ lw_all := lw_g (lw_at lw_m4 164 rfl) rfl
theorem q1031 : (Jvm.Cond.code ({ cls := "VerbAtDusk$Test", name := "<init>", desc := "()V" } : Jvm.MethodName) prog_19_method_1_code (1 : Nat) (Option.none : Option Jvm.ClassFile.FieldType)) ∈ lw_all := lw_g (lw_at lw_m4 165 rfl) rfl
theorem q1032 : (Jvm.Cond.methodLink "VerbAtDusk$Test" (1 : Nat) ({ cls := "java/lang/Object", name := "<init>", desc := "()V" } : Jvm.MethodName)) ∈ lw_all := lw_g (lw_at lw_m4 166 rfl) rfl
theorem q1370 : (Jvm.Cond.declares ({ cls := "VerbAtDusk$Test", name := "holds", desc := "(LVerbAtDusk$Moment;)Z" } : Jvm.MethodName)) ∈ lw_tbl := lw_at lw_m6 24 rfl
theorem q1371 : (Jvm.Cond.sameMethod "VerbAtDusk$Test" "VerbAtDusk$Test" "holds" "(LVerbAtDusk$Moment;)Z") ∈ lw_all := lw_g (lw_at lw_m6 25 rfl) rfl
/-! VerbAtDusk$Facts -/
set_option maxRecDepth 100000
def RX13 : String := "VerbAtDusk$Facts"
def TX13 : u_T := fun k => match k with
  | 0 => ("VerbAtDusk$Facts", "tests", "Ljava/util/List;", true)
  | _ => ("VerbAtDusk$Facts", "all", "Z", true)
def tyX13 : Nat → FieldType := fun k => match k with
  | 0 => .object "java/util/List"
  | _ => .boolean
abbrev wsX130 : List Cond := u_ws RX13 TX13 2
theorem nmX13 : ∀ a, a < 2 → ∀ b, b < 2 → a ≠ b → (TX13 a).2.1 ≠ (TX13 b).2.1 := by decide +kernel
theorem tyX13_ok : ∀ k, k < 2 → parseFieldDescriptor (TX13 k).2.2.1 = some (tyX13 k) := by decide +kernel
abbrev cX13_init : ByteArray := prog_6_method_1_code
def yX13_init : MethodName := ⟨RX13, "<init>", "(Z)V"⟩
def dkwX13_init_0 : List UInt8 := [42, 183, 0, 1, 42, 187, 0, 7, 89, 5, 183, 0, 9, 181, 0, 12, 42, 27, 181, 0, 18, 177]
abbrev dktX13_init_0 : List UInt8 := dkwX13_init_0 ++ []
theorem dksX13_init_0 : cX13_init.data.toList.drop 0 = dktX13_init_0 := by decide +kernel
theorem dX13_init_0 : decode cX13_init 0 = .ok (.aload_n 0, 1) := dk_42 (dk_at dksX13_init_0 0 rfl rfl)
theorem dX13_init_1 : decode cX13_init 1 = .ok (.invokespecial 1, 3) := dk_183 0 1 (dk_at dksX13_init_0 1 rfl rfl)
theorem dX13_init_4 : decode cX13_init 4 = .ok (.aload_n 0, 1) := dk_42 (dk_at dksX13_init_0 4 rfl rfl)
theorem dX13_init_5 : decode cX13_init 5 = .ok (.new 7, 3) := dk_187 0 7 (dk_at dksX13_init_0 5 rfl rfl)
theorem dX13_init_8 : decode cX13_init 8 = .ok (.dup, 1) := dk_89 (dk_at dksX13_init_0 8 rfl rfl)
theorem dX13_init_9 : decode cX13_init 9 = .ok (.iconst 2, 1) := dk_5 (dk_at dksX13_init_0 9 rfl rfl)
theorem dX13_init_10 : decode cX13_init 10 = .ok (.invokespecial 9, 3) := dk_183 0 9 (dk_at dksX13_init_0 10 rfl rfl)
theorem dX13_init_13 : decode cX13_init 13 = .ok (.putfield 12, 3) := dk_181 0 12 (dk_at dksX13_init_0 13 rfl rfl)
theorem dX13_init_16 : decode cX13_init 16 = .ok (.aload_n 0, 1) := dk_42 (dk_at dksX13_init_0 16 rfl rfl)
theorem dX13_init_17 : decode cX13_init 17 = .ok (.iload_n 1, 1) := dk_27 (dk_at dksX13_init_0 17 rfl rfl)
theorem dX13_init_18 : decode cX13_init 18 = .ok (.putfield 18, 3) := dk_181 0 18 (dk_at dksX13_init_0 18 rfl rfl)
theorem dX13_init_21 : decode cX13_init 21 = .ok (.return_, 1) := dk_177 (dk_at dksX13_init_0 21 rfl rfl)
abbrev cX13_holds : ByteArray := prog_6_method_2_code
def yX13_holds : MethodName := ⟨RX13, "holds", "(LVerbAtDusk$Moment;)Z"⟩
def dkwX13_holds_2 : List UInt8 := [154, 0, 7, 4, 167, 0, 4, 3, 172, 132, 2, 1, 167, 255, 203, 42, 180, 0, 18, 172]
abbrev dktX13_holds_2 : List UInt8 := dkwX13_holds_2 ++ []
def dkwX13_holds_1 : List UInt8 := [185, 0, 28, 2, 0, 192, 0, 2, 43, 182, 0, 32, 42, 180, 0, 18, 159, 0, 16, 42, 180, 0, 18]
abbrev dktX13_holds_1 : List UInt8 := dkwX13_holds_1 ++ dktX13_holds_2
def dkwX13_holds_0 : List UInt8 := [3, 61, 28, 42, 180, 0, 12, 185, 0, 22, 1, 0, 162, 0, 46, 42, 180, 0, 12, 28]
abbrev dktX13_holds_0 : List UInt8 := dkwX13_holds_0 ++ dktX13_holds_1
theorem dksX13_holds_0 : cX13_holds.data.toList.drop 0 = dktX13_holds_0 := by decide +kernel
theorem dksX13_holds_1 : cX13_holds.data.toList.drop 20 = dktX13_holds_1 := dk_seg dksX13_holds_0 20 rfl rfl
theorem dksX13_holds_2 : cX13_holds.data.toList.drop 43 = dktX13_holds_2 := dk_seg dksX13_holds_1 23 rfl rfl
theorem dX13_holds_0 : decode cX13_holds 0 = .ok (.iconst 0, 1) := dk_3 (dk_at dksX13_holds_0 0 rfl rfl)
theorem dX13_holds_1 : decode cX13_holds 1 = .ok (.istore_n 2, 1) := dk_61 (dk_at dksX13_holds_0 1 rfl rfl)
theorem dX13_holds_2 : decode cX13_holds 2 = .ok (.iload_n 2, 1) := dk_28 (dk_at dksX13_holds_0 2 rfl rfl)
theorem dX13_holds_3 : decode cX13_holds 3 = .ok (.aload_n 0, 1) := dk_42 (dk_at dksX13_holds_0 3 rfl rfl)
theorem dX13_holds_4 : decode cX13_holds 4 = .ok (.getfield 12, 3) := dk_180 0 12 (dk_at dksX13_holds_0 4 rfl rfl)
theorem dX13_holds_7 : decode cX13_holds 7 = .ok (.invokeinterface 22 1, 5) := by decide +kernel
theorem dX13_holds_12 : decode cX13_holds 12 = .ok (.if_icmp .ge 46, 3) := dk_162 0 46 (dk_at dksX13_holds_0 12 rfl rfl)
theorem dX13_holds_15 : decode cX13_holds 15 = .ok (.aload_n 0, 1) := dk_42 (dk_at dksX13_holds_0 15 rfl rfl)
theorem dX13_holds_16 : decode cX13_holds 16 = .ok (.getfield 12, 3) := dk_180 0 12 (dk_at dksX13_holds_0 16 rfl rfl)
theorem dX13_holds_19 : decode cX13_holds 19 = .ok (.iload_n 2, 1) := dk_28 (dk_at dksX13_holds_0 19 rfl rfl)
theorem dX13_holds_20 : decode cX13_holds 20 = .ok (.invokeinterface 28 2, 5) := by decide +kernel
theorem dX13_holds_25 : decode cX13_holds 25 = .ok (.checkcast 2, 3) := dk_192 0 2 (dk_at dksX13_holds_1 5 rfl rfl)
theorem dX13_holds_28 : decode cX13_holds 28 = .ok (.aload_n 1, 1) := dk_43 (dk_at dksX13_holds_1 8 rfl rfl)
theorem dX13_holds_29 : decode cX13_holds 29 = .ok (.invokevirtual 32, 3) := dk_182 0 32 (dk_at dksX13_holds_1 9 rfl rfl)
theorem dX13_holds_32 : decode cX13_holds 32 = .ok (.aload_n 0, 1) := dk_42 (dk_at dksX13_holds_1 12 rfl rfl)
theorem dX13_holds_33 : decode cX13_holds 33 = .ok (.getfield 18, 3) := dk_180 0 18 (dk_at dksX13_holds_1 13 rfl rfl)
theorem dX13_holds_36 : decode cX13_holds 36 = .ok (.if_icmp .eq 16, 3) := dk_159 0 16 (dk_at dksX13_holds_1 16 rfl rfl)
theorem dX13_holds_39 : decode cX13_holds 39 = .ok (.aload_n 0, 1) := dk_42 (dk_at dksX13_holds_1 19 rfl rfl)
theorem dX13_holds_40 : decode cX13_holds 40 = .ok (.getfield 18, 3) := dk_180 0 18 (dk_at dksX13_holds_1 20 rfl rfl)
theorem dX13_holds_43 : decode cX13_holds 43 = .ok (.ifCond .ne 7, 3) := dk_154 0 7 (dk_at dksX13_holds_2 0 rfl rfl)
theorem dX13_holds_46 : decode cX13_holds 46 = .ok (.iconst 1, 1) := dk_4 (dk_at dksX13_holds_2 3 rfl rfl)
theorem dX13_holds_47 : decode cX13_holds 47 = .ok (.goto 4, 3) := dk_167 0 4 (dk_at dksX13_holds_2 4 rfl rfl)
theorem dX13_holds_50 : decode cX13_holds 50 = .ok (.iconst 0, 1) := dk_3 (dk_at dksX13_holds_2 7 rfl rfl)
theorem dX13_holds_51 : decode cX13_holds 51 = .ok (.ireturn, 1) := dk_172 (dk_at dksX13_holds_2 8 rfl rfl)
theorem dX13_holds_52 : decode cX13_holds 52 = .ok (.iinc 2 1, 3) := dk_132 2 1 (dk_at dksX13_holds_2 9 rfl rfl)
theorem dX13_holds_55 : decode cX13_holds 55 = .ok (.goto (-53), 3) := dk_167 255 203 (dk_at dksX13_holds_2 12 rfl rfl)
theorem dX13_holds_58 : decode cX13_holds 58 = .ok (.aload_n 0, 1) := dk_42 (dk_at dksX13_holds_2 15 rfl rfl)
theorem dX13_holds_59 : decode cX13_holds 59 = .ok (.getfield 18, 3) := dk_180 0 18 (dk_at dksX13_holds_2 16 rfl rfl)
theorem dX13_holds_62 : decode cX13_holds 62 = .ok (.ireturn, 1) := dk_172 (dk_at dksX13_holds_2 19 rfl rfl)
theorem q175 : (Jvm.Cond.initialized "VerbAtDusk$Facts") ∈ lw_all := lw_g (lw_at lw_m1 29 rfl) rfl
theorem q955 : (Jvm.Cond.selects "VerbAtDusk$Facts" ({ cls := "java/lang/Object", name := "getClass", desc := "()Ljava/lang/Class;" } : Jvm.MethodName) ({ cls := "java/lang/Object", name := "getClass", desc := "()Ljava/lang/Class;" } : Jvm.MethodName)) ∈ lw_all := lw_g (lw_at lw_m4 89 rfl) rfl
theorem q1025 : (Jvm.Cond.instantiable "VerbAtDusk$Facts" (2 : Nat)) ∈ lw_all := lw_g (lw_at lw_m4 159 rfl) rfl
theorem q1027 : (Jvm.Cond.instanceMethod ({ cls := "VerbAtDusk$Facts", name := "<init>", desc := "(Z)V" } : Jvm.MethodName)) ∈ lw_all := lw_g (lw_at lw_m4 161 rfl) rfl
theorem q1028 : (Jvm.Cond.code ({ cls := "VerbAtDusk$Facts", name := "<init>", desc := "(Z)V" } : Jvm.MethodName) prog_6_method_1_code (2 : Nat) (Option.none : Option Jvm.ClassFile.FieldType)) ∈ lw_all := lw_g (lw_at lw_m4 162 rfl) rfl
theorem q1029 : (Jvm.Cond.methodLinkNest "VerbAtDusk$Facts" (1 : Nat) ({ cls := "VerbAtDusk$Test", name := "<init>", desc := "()V" } : Jvm.MethodName) "VerbAtDusk") ∈ lw_tbl := lw_at lw_m4 163 rfl
theorem q1033 : (Jvm.Cond.classLink "VerbAtDusk$Facts" (7 : Nat) "java/util/ArrayList") ∈ lw_all := lw_g (lw_at lw_m4 167 rfl) rfl
theorem q1034 : (Jvm.Cond.methodLink "VerbAtDusk$Facts" (9 : Nat) ({ cls := "java/util/ArrayList", name := "<init>", desc := "(I)V" } : Jvm.MethodName)) ∈ lw_all := lw_g (lw_at lw_m4 168 rfl) rfl
theorem q1035 : (Jvm.Cond.fieldLink "VerbAtDusk$Facts" (12 : Nat) "VerbAtDusk$Facts" "tests" "Ljava/util/List;") ∈ lw_all := lw_g (lw_at lw_m4 169 rfl) rfl
theorem q1037 : (Jvm.Cond.fieldLink "VerbAtDusk$Facts" (18 : Nat) "VerbAtDusk$Facts" "all" "Z") ∈ lw_all := lw_g (lw_at lw_m4 171 rfl) rfl
theorem q1038 : (Jvm.Cond.laysFinal "VerbAtDusk$Facts" "VerbAtDusk$Facts" "tests" "Ljava/util/List;") ∈ lw_all := lw_g (lw_at lw_m4 172 rfl) rfl
theorem q1039 : (Jvm.Cond.soleField "VerbAtDusk$Facts" "tests") ∈ lw_all := lw_g (lw_at lw_m4 173 rfl) rfl
theorem q1040 : (Jvm.Cond.laysFinal "VerbAtDusk$Facts" "VerbAtDusk$Facts" "all" "Z") ∈ lw_all := lw_g (lw_at lw_m4 174 rfl) rfl
theorem q1041 : (Jvm.Cond.soleField "VerbAtDusk$Facts" "all") ∈ lw_all := lw_g (lw_at lw_m4 175 rfl) rfl
theorem q1042 : (Jvm.Cond.superclass "VerbAtDusk$Facts" "VerbAtDusk$Test") ∈ lw_all := lw_g (lw_at lw_m4 176 rfl) rfl
theorem q1375 : (Jvm.Cond.selects "VerbAtDusk$Facts" ({ cls := "VerbAtDusk$Test", name := "holds", desc := "(LVerbAtDusk$Moment;)Z" } : Jvm.MethodName) ({ cls := "VerbAtDusk$Facts", name := "holds", desc := "(LVerbAtDusk$Moment;)Z" } : Jvm.MethodName)) ∈ lw_all := lw_g (lw_at lw_m6 29 rfl) rfl
theorem q1376 : (Jvm.Cond.instanceMethod ({ cls := "VerbAtDusk$Facts", name := "holds", desc := "(LVerbAtDusk$Moment;)Z" } : Jvm.MethodName)) ∈ lw_all := lw_g (lw_at lw_m6 30 rfl) rfl
theorem q1377 : (Jvm.Cond.code ({ cls := "VerbAtDusk$Facts", name := "holds", desc := "(LVerbAtDusk$Moment;)Z" } : Jvm.MethodName) prog_6_method_2_code (3 : Nat) (Option.some Jvm.ClassFile.FieldType.boolean)) ∈ lw_all := lw_g (lw_at lw_m6 31 rfl) rfl
theorem q1378 : (Jvm.Cond.interfaceEntry "VerbAtDusk$Facts" (22 : Nat)) ∈ lw_tbl := lw_at lw_m6 32 rfl
theorem q1379 : (Jvm.Cond.methodLink "VerbAtDusk$Facts" (22 : Nat) ({ cls := "java/util/List", name := "size", desc := "()I" } : Jvm.MethodName)) ∈ lw_all := lw_g (lw_at lw_m6 33 rfl) rfl
theorem q1380 : (Jvm.Cond.interfaceEntry "VerbAtDusk$Facts" (28 : Nat)) ∈ lw_tbl := lw_at lw_m6 34 rfl
theorem q1381 : (Jvm.Cond.methodLink "VerbAtDusk$Facts" (28 : Nat) ({ cls := "java/util/List", name := "get", desc := "(I)Ljava/lang/Object;" } : Jvm.MethodName)) ∈ lw_all := lw_g (lw_at lw_m6 35 rfl) rfl
theorem q1382 : (Jvm.Cond.classLink "VerbAtDusk$Facts" (2 : Nat) "VerbAtDusk$Test") ∈ lw_all := lw_g (lw_at lw_m6 36 rfl) rfl
theorem q1383 : (Jvm.Cond.methodLink "VerbAtDusk$Facts" (32 : Nat) ({ cls := "VerbAtDusk$Test", name := "holds", desc := "(LVerbAtDusk$Moment;)Z" } : Jvm.MethodName)) ∈ lw_all := lw_g (lw_at lw_m6 37 rfl) rfl
theorem q2633 : (Jvm.Cond.castable "VerbAtDusk$Facts" "VerbAtDusk$Test") ∈ lw_tbl := lw_at lw_m11 87 rfl
theorem q2655 : (Jvm.Cond.castable "VerbAtDusk$Facts" "java/lang/Object") ∈ lw_tbl := lw_at lw_m11 109 rfl
theorem in_X13 : ∀ w ∈ wsX130, w ∈ lw_all := lw_in wsX130 [1038, 1040] (by decide +kernel) (by decide +kernel)
/-! VerbAtDusk$Not -/
set_option maxRecDepth 100000
def RX14 : String := "VerbAtDusk$Not"
def TX14 : u_T := fun k => match k with
  | _ => ("VerbAtDusk$Not", "test", "LVerbAtDusk$Test;", true)
def tyX14 : Nat → FieldType := fun k => match k with
  | _ => .object "VerbAtDusk$Test"
abbrev wsX140 : List Cond := u_ws RX14 TX14 1
theorem nmX14 : ∀ a, a < 1 → ∀ b, b < 1 → a ≠ b → (TX14 a).2.1 ≠ (TX14 b).2.1 := by decide +kernel
theorem tyX14_ok : ∀ k, k < 1 → parseFieldDescriptor (TX14 k).2.2.1 = some (tyX14 k) := by decide +kernel
abbrev cX14_init : ByteArray := prog_13_method_1_code
def yX14_init : MethodName := ⟨RX14, "<init>", "(LVerbAtDusk$Test;)V"⟩
def dkwX14_init_0 : List UInt8 := [42, 183, 0, 1, 42, 43, 181, 0, 7, 177]
abbrev dktX14_init_0 : List UInt8 := dkwX14_init_0 ++ []
theorem dksX14_init_0 : cX14_init.data.toList.drop 0 = dktX14_init_0 := by decide +kernel
theorem dX14_init_0 : decode cX14_init 0 = .ok (.aload_n 0, 1) := dk_42 (dk_at dksX14_init_0 0 rfl rfl)
theorem dX14_init_1 : decode cX14_init 1 = .ok (.invokespecial 1, 3) := dk_183 0 1 (dk_at dksX14_init_0 1 rfl rfl)
theorem dX14_init_4 : decode cX14_init 4 = .ok (.aload_n 0, 1) := dk_42 (dk_at dksX14_init_0 4 rfl rfl)
theorem dX14_init_5 : decode cX14_init 5 = .ok (.aload_n 1, 1) := dk_43 (dk_at dksX14_init_0 5 rfl rfl)
theorem dX14_init_6 : decode cX14_init 6 = .ok (.putfield 7, 3) := dk_181 0 7 (dk_at dksX14_init_0 6 rfl rfl)
theorem dX14_init_9 : decode cX14_init 9 = .ok (.return_, 1) := dk_177 (dk_at dksX14_init_0 9 rfl rfl)
abbrev cX14_holds : ByteArray := prog_13_method_2_code
def yX14_holds : MethodName := ⟨RX14, "holds", "(LVerbAtDusk$Moment;)Z"⟩
def dkwX14_holds_0 : List UInt8 := [42, 180, 0, 7, 43, 182, 0, 13, 154, 0, 7, 4, 167, 0, 4, 3, 172]
abbrev dktX14_holds_0 : List UInt8 := dkwX14_holds_0 ++ []
theorem dksX14_holds_0 : cX14_holds.data.toList.drop 0 = dktX14_holds_0 := by decide +kernel
theorem dX14_holds_0 : decode cX14_holds 0 = .ok (.aload_n 0, 1) := dk_42 (dk_at dksX14_holds_0 0 rfl rfl)
theorem dX14_holds_1 : decode cX14_holds 1 = .ok (.getfield 7, 3) := dk_180 0 7 (dk_at dksX14_holds_0 1 rfl rfl)
theorem dX14_holds_4 : decode cX14_holds 4 = .ok (.aload_n 1, 1) := dk_43 (dk_at dksX14_holds_0 4 rfl rfl)
theorem dX14_holds_5 : decode cX14_holds 5 = .ok (.invokevirtual 13, 3) := dk_182 0 13 (dk_at dksX14_holds_0 5 rfl rfl)
theorem dX14_holds_8 : decode cX14_holds 8 = .ok (.ifCond .ne 7, 3) := dk_154 0 7 (dk_at dksX14_holds_0 8 rfl rfl)
theorem dX14_holds_11 : decode cX14_holds 11 = .ok (.iconst 1, 1) := dk_4 (dk_at dksX14_holds_0 11 rfl rfl)
theorem dX14_holds_12 : decode cX14_holds 12 = .ok (.goto 4, 3) := dk_167 0 4 (dk_at dksX14_holds_0 12 rfl rfl)
theorem dX14_holds_15 : decode cX14_holds 15 = .ok (.iconst 0, 1) := dk_3 (dk_at dksX14_holds_0 15 rfl rfl)
theorem dX14_holds_16 : decode cX14_holds 16 = .ok (.ireturn, 1) := dk_172 (dk_at dksX14_holds_0 16 rfl rfl)
theorem q176 : (Jvm.Cond.initialized "VerbAtDusk$Not") ∈ lw_all := lw_g (lw_at lw_m1 30 rfl) rfl
theorem q961 : (Jvm.Cond.selects "VerbAtDusk$Not" ({ cls := "java/lang/Object", name := "getClass", desc := "()Ljava/lang/Class;" } : Jvm.MethodName) ({ cls := "java/lang/Object", name := "getClass", desc := "()Ljava/lang/Class;" } : Jvm.MethodName)) ∈ lw_all := lw_g (lw_at lw_m4 95 rfl) rfl
theorem q1061 : (Jvm.Cond.instantiable "VerbAtDusk$Not" (1 : Nat)) ∈ lw_all := lw_g (lw_at lw_m4 195 rfl) rfl
theorem q1063 : (Jvm.Cond.instanceMethod ({ cls := "VerbAtDusk$Not", name := "<init>", desc := "(LVerbAtDusk$Test;)V" } : Jvm.MethodName)) ∈ lw_all := lw_g (lw_at lw_m4 197 rfl) rfl
theorem q1064 : (Jvm.Cond.code ({ cls := "VerbAtDusk$Not", name := "<init>", desc := "(LVerbAtDusk$Test;)V" } : Jvm.MethodName) prog_13_method_1_code (2 : Nat) (Option.none : Option Jvm.ClassFile.FieldType)) ∈ lw_all := lw_g (lw_at lw_m4 198 rfl) rfl
theorem q1065 : (Jvm.Cond.methodLinkNest "VerbAtDusk$Not" (1 : Nat) ({ cls := "VerbAtDusk$Test", name := "<init>", desc := "()V" } : Jvm.MethodName) "VerbAtDusk") ∈ lw_tbl := lw_at lw_m4 199 rfl
theorem q1066 : (Jvm.Cond.fieldLink "VerbAtDusk$Not" (7 : Nat) "VerbAtDusk$Not" "test" "LVerbAtDusk$Test;") ∈ lw_all := lw_g (lw_at lw_m4 200 rfl) rfl
theorem q1067 : (Jvm.Cond.laysFinal "VerbAtDusk$Not" "VerbAtDusk$Not" "test" "LVerbAtDusk$Test;") ∈ lw_all := lw_g (lw_at lw_m4 201 rfl) rfl
theorem q1068 : (Jvm.Cond.soleField "VerbAtDusk$Not" "test") ∈ lw_all := lw_g (lw_at lw_m4 202 rfl) rfl
theorem q1069 : (Jvm.Cond.superclass "VerbAtDusk$Not" "VerbAtDusk$Test") ∈ lw_all := lw_g (lw_at lw_m4 203 rfl) rfl
theorem q1384 : (Jvm.Cond.instanceMethod ({ cls := "VerbAtDusk$Not", name := "holds", desc := "(LVerbAtDusk$Moment;)Z" } : Jvm.MethodName)) ∈ lw_all := lw_g (lw_at lw_m6 38 rfl) rfl
theorem q1385 : (Jvm.Cond.code ({ cls := "VerbAtDusk$Not", name := "holds", desc := "(LVerbAtDusk$Moment;)Z" } : Jvm.MethodName) prog_13_method_2_code (2 : Nat) (Option.some Jvm.ClassFile.FieldType.boolean)) ∈ lw_all := lw_g (lw_at lw_m6 39 rfl) rfl
theorem q1386 : (Jvm.Cond.methodLink "VerbAtDusk$Not" (13 : Nat) ({ cls := "VerbAtDusk$Test", name := "holds", desc := "(LVerbAtDusk$Moment;)Z" } : Jvm.MethodName)) ∈ lw_all := lw_g (lw_at lw_m6 40 rfl) rfl
theorem q1453 : (Jvm.Cond.selects "VerbAtDusk$Not" ({ cls := "VerbAtDusk$Test", name := "holds", desc := "(LVerbAtDusk$Moment;)Z" } : Jvm.MethodName) ({ cls := "VerbAtDusk$Not", name := "holds", desc := "(LVerbAtDusk$Moment;)Z" } : Jvm.MethodName)) ∈ lw_all := lw_g (lw_at lw_m6 107 rfl) rfl
theorem q2634 : (Jvm.Cond.castable "VerbAtDusk$Not" "VerbAtDusk$Test") ∈ lw_tbl := lw_at lw_m11 88 rfl
theorem q2656 : (Jvm.Cond.castable "VerbAtDusk$Not" "java/lang/Object") ∈ lw_tbl := lw_at lw_m11 110 rfl
theorem in_X14 : ∀ w ∈ wsX140, w ∈ lw_all := lw_in wsX140 [1067] (by decide +kernel) (by decide +kernel)
/-! VerbAtDusk$All -/
set_option maxRecDepth 100000
def RX15 : String := "VerbAtDusk$All"
abbrev cX15_init : ByteArray := prog_2_method_1_code
def yX15_init : MethodName := ⟨RX15, "<init>", "()V"⟩
theorem dX15_init_0 : decode cX15_init 0 = .ok (.aload_n 0, 1) := by decide +kernel
theorem dX15_init_1 : decode cX15_init 1 = .ok (.invokespecial 1, 3) := by decide +kernel
theorem dX15_init_4 : decode cX15_init 4 = .ok (.return_, 1) := by decide +kernel
abbrev cX15_holds : ByteArray := prog_2_method_2_code
def yX15_holds : MethodName := ⟨RX15, "holds", "(LVerbAtDusk$Moment;)Z"⟩
theorem dX15_holds_0 : decode cX15_holds 0 = .ok (.iconst 1, 1) := by decide +kernel
theorem dX15_holds_1 : decode cX15_holds 1 = .ok (.ireturn, 1) := by decide +kernel
theorem q177 : (Jvm.Cond.initialized "VerbAtDusk$All") ∈ lw_all := lw_g (lw_at lw_m1 31 rfl) rfl
theorem q951 : (Jvm.Cond.selects "VerbAtDusk$All" ({ cls := "java/lang/Object", name := "getClass", desc := "()Ljava/lang/Class;" } : Jvm.MethodName) ({ cls := "java/lang/Object", name := "getClass", desc := "()Ljava/lang/Class;" } : Jvm.MethodName)) ∈ lw_all := lw_g (lw_at lw_m4 85 rfl) rfl
theorem q1072 : (Jvm.Cond.instantiable "VerbAtDusk$All" (0 : Nat)) ∈ lw_all := lw_g (lw_at lw_m4 206 rfl) rfl
theorem q1074 : (Jvm.Cond.instanceMethod ({ cls := "VerbAtDusk$All", name := "<init>", desc := "()V" } : Jvm.MethodName)) ∈ lw_all := lw_g (lw_at lw_m4 208 rfl) rfl
theorem q1075 : (Jvm.Cond.code ({ cls := "VerbAtDusk$All", name := "<init>", desc := "()V" } : Jvm.MethodName) prog_2_method_1_code (1 : Nat) (Option.none : Option Jvm.ClassFile.FieldType)) ∈ lw_all := lw_g (lw_at lw_m4 209 rfl) rfl
theorem q1076 : (Jvm.Cond.methodLinkNest "VerbAtDusk$All" (1 : Nat) ({ cls := "VerbAtDusk$Test", name := "<init>", desc := "()V" } : Jvm.MethodName) "VerbAtDusk") ∈ lw_tbl := lw_at lw_m4 210 rfl
theorem q1077 : (Jvm.Cond.superclass "VerbAtDusk$All" "VerbAtDusk$Test") ∈ lw_all := lw_g (lw_at lw_m4 211 rfl) rfl
theorem q1372 : (Jvm.Cond.selects "VerbAtDusk$All" ({ cls := "VerbAtDusk$Test", name := "holds", desc := "(LVerbAtDusk$Moment;)Z" } : Jvm.MethodName) ({ cls := "VerbAtDusk$All", name := "holds", desc := "(LVerbAtDusk$Moment;)Z" } : Jvm.MethodName)) ∈ lw_all := lw_g (lw_at lw_m6 26 rfl) rfl
theorem q1373 : (Jvm.Cond.instanceMethod ({ cls := "VerbAtDusk$All", name := "holds", desc := "(LVerbAtDusk$Moment;)Z" } : Jvm.MethodName)) ∈ lw_all := lw_g (lw_at lw_m6 27 rfl) rfl
theorem q1374 : (Jvm.Cond.code ({ cls := "VerbAtDusk$All", name := "holds", desc := "(LVerbAtDusk$Moment;)Z" } : Jvm.MethodName) prog_2_method_2_code (2 : Nat) (Option.some Jvm.ClassFile.FieldType.boolean)) ∈ lw_all := lw_g (lw_at lw_m6 28 rfl) rfl
theorem q2632 : (Jvm.Cond.castable "VerbAtDusk$All" "VerbAtDusk$Test") ∈ lw_tbl := lw_at lw_m11 86 rfl
theorem q2657 : (Jvm.Cond.castable "VerbAtDusk$All" "java/lang/Object") ∈ lw_tbl := lw_at lw_m11 111 rfl
/-! VerbAtDusk$Value -/
set_option maxRecDepth 100000
def RX16 : String := "VerbAtDusk$Value"
abbrev cX16_init : ByteArray := prog_21_method_1_code
def yX16_init : MethodName := ⟨RX16, "<init>", "()V"⟩
theorem dX16_init_0 : decode cX16_init 0 = .ok (.aload_n 0, 1) := by decide +kernel
theorem dX16_init_1 : decode cX16_init 1 = .ok (.invokespecial 1, 3) := by decide +kernel
theorem dX16_init_4 : decode cX16_init 4 = .ok (.return_, 1) := by decide +kernel
theorem q178 : (Jvm.Cond.initialized "VerbAtDusk$Value") ∈ lw_all := lw_g (lw_at lw_m1 32 rfl) rfl
theorem q1088 : (Jvm.Cond.instanceMethod ({ cls := "VerbAtDusk$Value", name := "<init>", desc := "()V" } : Jvm.MethodName)) ∈ lw_all := lw_g (lw_at lw_m4 222 rfl) rfl
theorem q1089 : (Jvm.Cond.code ({ cls := "VerbAtDusk$Value", name := "<init>", desc := "()V" } : Jvm.MethodName) prog_21_method_1_code (1 : Nat) (Option.none : Option Jvm.ClassFile.FieldType)) ∈ lw_all := lw_g (lw_at lw_m4 223 rfl) rfl
theorem q1090 : (Jvm.Cond.methodLink "VerbAtDusk$Value" (1 : Nat) ({ cls := "java/lang/Object", name := "<init>", desc := "()V" } : Jvm.MethodName)) ∈ lw_all := lw_g (lw_at lw_m4 224 rfl) rfl
theorem q1390 : (Jvm.Cond.declares ({ cls := "VerbAtDusk$Value", name := "at", desc := "(LVerbAtDusk$Moment;)J" } : Jvm.MethodName)) ∈ lw_tbl := lw_at lw_m6 44 rfl
theorem q1391 : (Jvm.Cond.sameMethod "VerbAtDusk$Value" "VerbAtDusk$Value" "at" "(LVerbAtDusk$Moment;)J") ∈ lw_all := lw_g (lw_at lw_m6 45 rfl) rfl
/-! VerbAtDusk$Chain -/
set_option maxRecDepth 100000
def RX17 : String := "VerbAtDusk$Chain"
def TX17 : u_T := fun k => match k with
  | 0 => ("VerbAtDusk$Chain", "values", "Ljava/util/List;", true)
  | _ => ("VerbAtDusk$Chain", "signs", "Ljava/lang/StringBuilder;", true)
def tyX17 : Nat → FieldType := fun k => match k with
  | 0 => .object "java/util/List"
  | _ => .object "java/lang/StringBuilder"
abbrev wsX170 : List Cond := u_ws RX17 TX17 2
theorem nmX17 : ∀ a, a < 2 → ∀ b, b < 2 → a ≠ b → (TX17 a).2.1 ≠ (TX17 b).2.1 := by decide +kernel
theorem tyX17_ok : ∀ k, k < 2 → parseFieldDescriptor (TX17 k).2.2.1 = some (tyX17 k) := by decide +kernel
abbrev cX17_init : ByteArray := prog_4_method_1_code
def yX17_init : MethodName := ⟨RX17, "<init>", "()V"⟩
def dkwX17_init_1 : List UInt8 := [181, 0, 21, 177]
abbrev dktX17_init_1 : List UInt8 := dkwX17_init_1 ++ []
def dkwX17_init_0 : List UInt8 := [42, 183, 0, 1, 42, 187, 0, 7, 89, 5, 183, 0, 9, 181, 0, 12, 42, 187, 0, 18, 89, 183, 0, 20]
abbrev dktX17_init_0 : List UInt8 := dkwX17_init_0 ++ dktX17_init_1
theorem dksX17_init_0 : cX17_init.data.toList.drop 0 = dktX17_init_0 := by decide +kernel
theorem dksX17_init_1 : cX17_init.data.toList.drop 24 = dktX17_init_1 := dk_seg dksX17_init_0 24 rfl rfl
theorem dX17_init_0 : decode cX17_init 0 = .ok (.aload_n 0, 1) := dk_42 (dk_at dksX17_init_0 0 rfl rfl)
theorem dX17_init_1 : decode cX17_init 1 = .ok (.invokespecial 1, 3) := dk_183 0 1 (dk_at dksX17_init_0 1 rfl rfl)
theorem dX17_init_4 : decode cX17_init 4 = .ok (.aload_n 0, 1) := dk_42 (dk_at dksX17_init_0 4 rfl rfl)
theorem dX17_init_5 : decode cX17_init 5 = .ok (.new 7, 3) := dk_187 0 7 (dk_at dksX17_init_0 5 rfl rfl)
theorem dX17_init_8 : decode cX17_init 8 = .ok (.dup, 1) := dk_89 (dk_at dksX17_init_0 8 rfl rfl)
theorem dX17_init_9 : decode cX17_init 9 = .ok (.iconst 2, 1) := dk_5 (dk_at dksX17_init_0 9 rfl rfl)
theorem dX17_init_10 : decode cX17_init 10 = .ok (.invokespecial 9, 3) := dk_183 0 9 (dk_at dksX17_init_0 10 rfl rfl)
theorem dX17_init_13 : decode cX17_init 13 = .ok (.putfield 12, 3) := dk_181 0 12 (dk_at dksX17_init_0 13 rfl rfl)
theorem dX17_init_16 : decode cX17_init 16 = .ok (.aload_n 0, 1) := dk_42 (dk_at dksX17_init_0 16 rfl rfl)
theorem dX17_init_17 : decode cX17_init 17 = .ok (.new 18, 3) := dk_187 0 18 (dk_at dksX17_init_0 17 rfl rfl)
theorem dX17_init_20 : decode cX17_init 20 = .ok (.dup, 1) := dk_89 (dk_at dksX17_init_0 20 rfl rfl)
theorem dX17_init_21 : decode cX17_init 21 = .ok (.invokespecial 20, 3) := dk_183 0 20 (dk_at dksX17_init_0 21 rfl rfl)
theorem dX17_init_24 : decode cX17_init 24 = .ok (.putfield 21, 3) := dk_181 0 21 (dk_at dksX17_init_1 0 rfl rfl)
theorem dX17_init_27 : decode cX17_init 27 = .ok (.return_, 1) := dk_177 (dk_at dksX17_init_1 3 rfl rfl)
abbrev cX17_add : ByteArray := prog_4_method_2_code
def yX17_add : MethodName := ⟨RX17, "add", "(CLVerbAtDusk$Value;)V"⟩
def dkwX17_add_0 : List UInt8 := [42, 180, 0, 21, 27, 182, 0, 25, 87, 42, 180, 0, 12, 44, 185, 0, 29, 2, 0, 87, 177]
abbrev dktX17_add_0 : List UInt8 := dkwX17_add_0 ++ []
theorem dksX17_add_0 : cX17_add.data.toList.drop 0 = dktX17_add_0 := by decide +kernel
theorem dX17_add_0 : decode cX17_add 0 = .ok (.aload_n 0, 1) := dk_42 (dk_at dksX17_add_0 0 rfl rfl)
theorem dX17_add_1 : decode cX17_add 1 = .ok (.getfield 21, 3) := dk_180 0 21 (dk_at dksX17_add_0 1 rfl rfl)
theorem dX17_add_4 : decode cX17_add 4 = .ok (.iload_n 1, 1) := dk_27 (dk_at dksX17_add_0 4 rfl rfl)
theorem dX17_add_5 : decode cX17_add 5 = .ok (.invokevirtual 25, 3) := dk_182 0 25 (dk_at dksX17_add_0 5 rfl rfl)
theorem dX17_add_8 : decode cX17_add 8 = .ok (.pop, 1) := dk_87 (dk_at dksX17_add_0 8 rfl rfl)
theorem dX17_add_9 : decode cX17_add 9 = .ok (.aload_n 0, 1) := dk_42 (dk_at dksX17_add_0 9 rfl rfl)
theorem dX17_add_10 : decode cX17_add 10 = .ok (.getfield 12, 3) := dk_180 0 12 (dk_at dksX17_add_0 10 rfl rfl)
theorem dX17_add_13 : decode cX17_add 13 = .ok (.aload_n 2, 1) := dk_44 (dk_at dksX17_add_0 13 rfl rfl)
theorem dX17_add_14 : decode cX17_add 14 = .ok (.invokeinterface 29 2, 5) := by decide +kernel
theorem dX17_add_19 : decode cX17_add 19 = .ok (.pop, 1) := dk_87 (dk_at dksX17_add_0 19 rfl rfl)
theorem dX17_add_20 : decode cX17_add 20 = .ok (.return_, 1) := dk_177 (dk_at dksX17_add_0 20 rfl rfl)
abbrev cX17_at : ByteArray := prog_4_method_3_code
def yX17_at : MethodName := ⟨RX17, "at", "(LVerbAtDusk$Moment;)J"⟩
def dkwX17_at_3 : List UInt8 := [132, 4, 1, 167, 255, 204, 32, 173]
abbrev dktX17_at_3 : List UInt8 := dkwX17_at_3 ++ []
def dkwX17_at_2 : List UInt8 := [180, 0, 12, 21, 4, 185, 0, 35, 2, 0, 192, 0, 2, 43, 182, 0, 39, 184, 0, 51, 184, 0, 55, 65]
abbrev dktX17_at_2 : List UInt8 := dkwX17_at_2 ++ dktX17_at_3
def dkwX17_at_1 : List UInt8 := [180, 0, 12, 185, 0, 43, 1, 0, 162, 0, 44, 42, 180, 0, 21, 21, 4, 182, 0, 47, 32, 42]
abbrev dktX17_at_1 : List UInt8 := dkwX17_at_1 ++ dktX17_at_2
def dkwX17_at_0 : List UInt8 := [42, 180, 0, 12, 3, 185, 0, 35, 2, 0, 192, 0, 2, 43, 182, 0, 39, 65, 4, 54, 4, 21, 4, 42]
abbrev dktX17_at_0 : List UInt8 := dkwX17_at_0 ++ dktX17_at_1
theorem dksX17_at_0 : cX17_at.data.toList.drop 0 = dktX17_at_0 := by decide +kernel
theorem dksX17_at_1 : cX17_at.data.toList.drop 24 = dktX17_at_1 := dk_seg dksX17_at_0 24 rfl rfl
theorem dksX17_at_2 : cX17_at.data.toList.drop 46 = dktX17_at_2 := dk_seg dksX17_at_1 22 rfl rfl
theorem dksX17_at_3 : cX17_at.data.toList.drop 70 = dktX17_at_3 := dk_seg dksX17_at_2 24 rfl rfl
theorem dX17_at_0 : decode cX17_at 0 = .ok (.aload_n 0, 1) := dk_42 (dk_at dksX17_at_0 0 rfl rfl)
theorem dX17_at_1 : decode cX17_at 1 = .ok (.getfield 12, 3) := dk_180 0 12 (dk_at dksX17_at_0 1 rfl rfl)
theorem dX17_at_4 : decode cX17_at 4 = .ok (.iconst 0, 1) := dk_3 (dk_at dksX17_at_0 4 rfl rfl)
theorem dX17_at_5 : decode cX17_at 5 = .ok (.invokeinterface 35 2, 5) := by decide +kernel
theorem dX17_at_10 : decode cX17_at 10 = .ok (.checkcast 2, 3) := dk_192 0 2 (dk_at dksX17_at_0 10 rfl rfl)
theorem dX17_at_13 : decode cX17_at 13 = .ok (.aload_n 1, 1) := dk_43 (dk_at dksX17_at_0 13 rfl rfl)
theorem dX17_at_14 : decode cX17_at 14 = .ok (.invokevirtual 39, 3) := dk_182 0 39 (dk_at dksX17_at_0 14 rfl rfl)
theorem dX17_at_17 : decode cX17_at 17 = .ok (.lstore_n 2, 1) := dk_65 (dk_at dksX17_at_0 17 rfl rfl)
theorem dX17_at_18 : decode cX17_at 18 = .ok (.iconst 1, 1) := dk_4 (dk_at dksX17_at_0 18 rfl rfl)
theorem dX17_at_19 : decode cX17_at 19 = .ok (.istore 4, 2) := dk_54 4 (dk_at dksX17_at_0 19 rfl rfl)
theorem dX17_at_21 : decode cX17_at 21 = .ok (.iload 4, 2) := dk_21 4 (dk_at dksX17_at_0 21 rfl rfl)
theorem dX17_at_23 : decode cX17_at 23 = .ok (.aload_n 0, 1) := dk_42 (dk_at dksX17_at_0 23 rfl rfl)
theorem dX17_at_24 : decode cX17_at 24 = .ok (.getfield 12, 3) := dk_180 0 12 (dk_at dksX17_at_1 0 rfl rfl)
theorem dX17_at_27 : decode cX17_at 27 = .ok (.invokeinterface 43 1, 5) := by decide +kernel
theorem dX17_at_32 : decode cX17_at 32 = .ok (.if_icmp .ge 44, 3) := dk_162 0 44 (dk_at dksX17_at_1 8 rfl rfl)
theorem dX17_at_35 : decode cX17_at 35 = .ok (.aload_n 0, 1) := dk_42 (dk_at dksX17_at_1 11 rfl rfl)
theorem dX17_at_36 : decode cX17_at 36 = .ok (.getfield 21, 3) := dk_180 0 21 (dk_at dksX17_at_1 12 rfl rfl)
theorem dX17_at_39 : decode cX17_at 39 = .ok (.iload 4, 2) := dk_21 4 (dk_at dksX17_at_1 15 rfl rfl)
theorem dX17_at_41 : decode cX17_at 41 = .ok (.invokevirtual 47, 3) := dk_182 0 47 (dk_at dksX17_at_1 17 rfl rfl)
theorem dX17_at_44 : decode cX17_at 44 = .ok (.lload_n 2, 1) := dk_32 (dk_at dksX17_at_1 20 rfl rfl)
theorem dX17_at_45 : decode cX17_at 45 = .ok (.aload_n 0, 1) := dk_42 (dk_at dksX17_at_1 21 rfl rfl)
theorem dX17_at_46 : decode cX17_at 46 = .ok (.getfield 12, 3) := dk_180 0 12 (dk_at dksX17_at_2 0 rfl rfl)
theorem dX17_at_49 : decode cX17_at 49 = .ok (.iload 4, 2) := dk_21 4 (dk_at dksX17_at_2 3 rfl rfl)
theorem dX17_at_51 : decode cX17_at 51 = .ok (.invokeinterface 35 2, 5) := by decide +kernel
theorem dX17_at_56 : decode cX17_at 56 = .ok (.checkcast 2, 3) := dk_192 0 2 (dk_at dksX17_at_2 10 rfl rfl)
theorem dX17_at_59 : decode cX17_at 59 = .ok (.aload_n 1, 1) := dk_43 (dk_at dksX17_at_2 13 rfl rfl)
theorem dX17_at_60 : decode cX17_at 60 = .ok (.invokevirtual 39, 3) := dk_182 0 39 (dk_at dksX17_at_2 14 rfl rfl)
theorem dX17_at_63 : decode cX17_at 63 = .ok (.invokestatic 51, 3) := dk_184 0 51 (dk_at dksX17_at_2 17 rfl rfl)
theorem dX17_at_66 : decode cX17_at 66 = .ok (.invokestatic 55, 3) := dk_184 0 55 (dk_at dksX17_at_2 20 rfl rfl)
theorem dX17_at_69 : decode cX17_at 69 = .ok (.lstore_n 2, 1) := dk_65 (dk_at dksX17_at_2 23 rfl rfl)
theorem dX17_at_70 : decode cX17_at 70 = .ok (.iinc 4 1, 3) := dk_132 4 1 (dk_at dksX17_at_3 0 rfl rfl)
theorem dX17_at_73 : decode cX17_at 73 = .ok (.goto (-52), 3) := dk_167 255 204 (dk_at dksX17_at_3 3 rfl rfl)
theorem dX17_at_76 : decode cX17_at 76 = .ok (.lload_n 2, 1) := dk_32 (dk_at dksX17_at_3 6 rfl rfl)
theorem dX17_at_77 : decode cX17_at 77 = .ok (.lreturn, 1) := dk_173 (dk_at dksX17_at_3 7 rfl rfl)
abbrev cX17_two : ByteArray := prog_4_method_4_code
def yX17_two : MethodName := ⟨RX17, "two", "(CJJ)J"⟩
def dkwX17_two_3 : List UInt8 := [184, 0, 61, 173]
abbrev dktX17_two_3 : List UInt8 := dkwX17_two_3 ++ []
def dkwX17_two_2 : List UInt8 := [31, 33, 97, 173, 31, 33, 101, 173, 31, 33, 105, 173, 33, 9, 148, 154, 0, 7, 9, 167, 0, 8, 31, 33]
abbrev dktX17_two_2 : List UInt8 := dkwX17_two_2 ++ dktX17_two_3
def dkwX17_two_1 : List UInt8 := [170, 0, 0, 0, 0, 0, 43, 0, 0, 0, 42, 0, 0, 0, 45, 0, 0, 0, 39, 0, 0, 0, 31, 0, 0, 0, 43, 0, 0, 0, 35]
abbrev dktX17_two_1 : List UInt8 := dkwX17_two_1 ++ dktX17_two_2
def dkwX17_two_0 : List UInt8 := [26]
abbrev dktX17_two_0 : List UInt8 := dkwX17_two_0 ++ dktX17_two_1
theorem dksX17_two_0 : cX17_two.data.toList.drop 0 = dktX17_two_0 := by decide +kernel
theorem dksX17_two_1 : cX17_two.data.toList.drop 1 = dktX17_two_1 := dk_seg dksX17_two_0 1 rfl rfl
theorem dksX17_two_2 : cX17_two.data.toList.drop 32 = dktX17_two_2 := dk_seg dksX17_two_1 31 rfl rfl
theorem dksX17_two_3 : cX17_two.data.toList.drop 56 = dktX17_two_3 := dk_seg dksX17_two_2 24 rfl rfl
theorem dX17_two_0 : decode cX17_two 0 = .ok (.iload_n 0, 1) := dk_26 (dk_at dksX17_two_0 0 rfl rfl)
theorem dX17_two_1 : decode cX17_two 1 = .ok (.tableswitch 43 42 45 #[39, 31, 43, 35], 31) := by decide +kernel
theorem dX17_two_32 : decode cX17_two 32 = .ok (.lload_n 1, 1) := dk_31 (dk_at dksX17_two_2 0 rfl rfl)
theorem dX17_two_33 : decode cX17_two 33 = .ok (.lload_n 3, 1) := dk_33 (dk_at dksX17_two_2 1 rfl rfl)
theorem dX17_two_34 : decode cX17_two 34 = .ok (.ladd, 1) := dk_97 (dk_at dksX17_two_2 2 rfl rfl)
theorem dX17_two_35 : decode cX17_two 35 = .ok (.lreturn, 1) := dk_173 (dk_at dksX17_two_2 3 rfl rfl)
theorem dX17_two_36 : decode cX17_two 36 = .ok (.lload_n 1, 1) := dk_31 (dk_at dksX17_two_2 4 rfl rfl)
theorem dX17_two_37 : decode cX17_two 37 = .ok (.lload_n 3, 1) := dk_33 (dk_at dksX17_two_2 5 rfl rfl)
theorem dX17_two_38 : decode cX17_two 38 = .ok (.lsub, 1) := dk_101 (dk_at dksX17_two_2 6 rfl rfl)
theorem dX17_two_39 : decode cX17_two 39 = .ok (.lreturn, 1) := dk_173 (dk_at dksX17_two_2 7 rfl rfl)
theorem dX17_two_40 : decode cX17_two 40 = .ok (.lload_n 1, 1) := dk_31 (dk_at dksX17_two_2 8 rfl rfl)
theorem dX17_two_41 : decode cX17_two 41 = .ok (.lload_n 3, 1) := dk_33 (dk_at dksX17_two_2 9 rfl rfl)
theorem dX17_two_42 : decode cX17_two 42 = .ok (.lmul, 1) := dk_105 (dk_at dksX17_two_2 10 rfl rfl)
theorem dX17_two_43 : decode cX17_two 43 = .ok (.lreturn, 1) := dk_173 (dk_at dksX17_two_2 11 rfl rfl)
theorem dX17_two_44 : decode cX17_two 44 = .ok (.lload_n 3, 1) := dk_33 (dk_at dksX17_two_2 12 rfl rfl)
theorem dX17_two_45 : decode cX17_two 45 = .ok (.lconst 0, 1) := dk_9 (dk_at dksX17_two_2 13 rfl rfl)
theorem dX17_two_46 : decode cX17_two 46 = .ok (.lcmp, 1) := dk_148 (dk_at dksX17_two_2 14 rfl rfl)
theorem dX17_two_47 : decode cX17_two 47 = .ok (.ifCond .ne 7, 3) := dk_154 0 7 (dk_at dksX17_two_2 15 rfl rfl)
theorem dX17_two_50 : decode cX17_two 50 = .ok (.lconst 0, 1) := dk_9 (dk_at dksX17_two_2 18 rfl rfl)
theorem dX17_two_51 : decode cX17_two 51 = .ok (.goto 8, 3) := dk_167 0 8 (dk_at dksX17_two_2 19 rfl rfl)
theorem dX17_two_54 : decode cX17_two 54 = .ok (.lload_n 1, 1) := dk_31 (dk_at dksX17_two_2 22 rfl rfl)
theorem dX17_two_55 : decode cX17_two 55 = .ok (.lload_n 3, 1) := dk_33 (dk_at dksX17_two_2 23 rfl rfl)
theorem dX17_two_56 : decode cX17_two 56 = .ok (.invokestatic 61, 3) := dk_184 0 61 (dk_at dksX17_two_3 0 rfl rfl)
theorem dX17_two_59 : decode cX17_two 59 = .ok (.lreturn, 1) := dk_173 (dk_at dksX17_two_3 3 rfl rfl)
theorem q179 : (Jvm.Cond.initialized "VerbAtDusk$Chain") ∈ lw_all := lw_g (lw_at lw_m1 33 rfl) rfl
theorem q953 : (Jvm.Cond.selects "VerbAtDusk$Chain" ({ cls := "java/lang/Object", name := "getClass", desc := "()Ljava/lang/Class;" } : Jvm.MethodName) ({ cls := "java/lang/Object", name := "getClass", desc := "()Ljava/lang/Class;" } : Jvm.MethodName)) ∈ lw_all := lw_g (lw_at lw_m4 87 rfl) rfl
theorem q1083 : (Jvm.Cond.instantiable "VerbAtDusk$Chain" (2 : Nat)) ∈ lw_all := lw_g (lw_at lw_m4 217 rfl) rfl
theorem q1085 : (Jvm.Cond.instanceMethod ({ cls := "VerbAtDusk$Chain", name := "<init>", desc := "()V" } : Jvm.MethodName)) ∈ lw_all := lw_g (lw_at lw_m4 219 rfl) rfl
theorem q1086 : (Jvm.Cond.code ({ cls := "VerbAtDusk$Chain", name := "<init>", desc := "()V" } : Jvm.MethodName) prog_4_method_1_code (1 : Nat) (Option.none : Option Jvm.ClassFile.FieldType)) ∈ lw_all := lw_g (lw_at lw_m4 220 rfl) rfl
theorem q1087 : (Jvm.Cond.methodLinkNest "VerbAtDusk$Chain" (1 : Nat) ({ cls := "VerbAtDusk$Value", name := "<init>", desc := "()V" } : Jvm.MethodName) "VerbAtDusk") ∈ lw_tbl := lw_at lw_m4 221 rfl
theorem q1091 : (Jvm.Cond.classLink "VerbAtDusk$Chain" (7 : Nat) "java/util/ArrayList") ∈ lw_all := lw_g (lw_at lw_m4 225 rfl) rfl
theorem q1092 : (Jvm.Cond.methodLink "VerbAtDusk$Chain" (9 : Nat) ({ cls := "java/util/ArrayList", name := "<init>", desc := "(I)V" } : Jvm.MethodName)) ∈ lw_all := lw_g (lw_at lw_m4 226 rfl) rfl
theorem q1093 : (Jvm.Cond.classLink "VerbAtDusk$Chain" (18 : Nat) "java/lang/StringBuilder") ∈ lw_all := lw_g (lw_at lw_m4 227 rfl) rfl
theorem q1095 : (Jvm.Cond.methodLink "VerbAtDusk$Chain" (20 : Nat) ({ cls := "java/lang/StringBuilder", name := "<init>", desc := "()V" } : Jvm.MethodName)) ∈ lw_all := lw_g (lw_at lw_m4 229 rfl) rfl
theorem q1116 : (Jvm.Cond.fieldLink "VerbAtDusk$Chain" (12 : Nat) "VerbAtDusk$Chain" "values" "Ljava/util/List;") ∈ lw_all := lw_g (lw_at lw_m5 10 rfl) rfl
theorem q1117 : (Jvm.Cond.fieldLink "VerbAtDusk$Chain" (21 : Nat) "VerbAtDusk$Chain" "signs" "Ljava/lang/StringBuilder;") ∈ lw_all := lw_g (lw_at lw_m5 11 rfl) rfl
theorem q1118 : (Jvm.Cond.laysFinal "VerbAtDusk$Chain" "VerbAtDusk$Chain" "values" "Ljava/util/List;") ∈ lw_all := lw_g (lw_at lw_m5 12 rfl) rfl
theorem q1119 : (Jvm.Cond.soleField "VerbAtDusk$Chain" "values") ∈ lw_all := lw_g (lw_at lw_m5 13 rfl) rfl
theorem q1120 : (Jvm.Cond.laysFinal "VerbAtDusk$Chain" "VerbAtDusk$Chain" "signs" "Ljava/lang/StringBuilder;") ∈ lw_all := lw_g (lw_at lw_m5 14 rfl) rfl
theorem q1121 : (Jvm.Cond.soleField "VerbAtDusk$Chain" "signs") ∈ lw_all := lw_g (lw_at lw_m5 15 rfl) rfl
theorem q1122 : (Jvm.Cond.superclass "VerbAtDusk$Chain" "VerbAtDusk$Value") ∈ lw_all := lw_g (lw_at lw_m5 16 rfl) rfl
theorem q1198 : (Jvm.Cond.instanceMethod ({ cls := "VerbAtDusk$Chain", name := "add", desc := "(CLVerbAtDusk$Value;)V" } : Jvm.MethodName)) ∈ lw_all := lw_g (lw_at lw_m5 92 rfl) rfl
theorem q1199 : (Jvm.Cond.selects "VerbAtDusk$Chain" ({ cls := "VerbAtDusk$Chain", name := "add", desc := "(CLVerbAtDusk$Value;)V" } : Jvm.MethodName) ({ cls := "VerbAtDusk$Chain", name := "add", desc := "(CLVerbAtDusk$Value;)V" } : Jvm.MethodName)) ∈ lw_all := lw_g (lw_at lw_m5 93 rfl) rfl
theorem q1200 : (Jvm.Cond.code ({ cls := "VerbAtDusk$Chain", name := "add", desc := "(CLVerbAtDusk$Value;)V" } : Jvm.MethodName) prog_4_method_2_code (3 : Nat) (Option.none : Option Jvm.ClassFile.FieldType)) ∈ lw_all := lw_g (lw_at lw_m5 94 rfl) rfl
theorem q1201 : (Jvm.Cond.methodLink "VerbAtDusk$Chain" (25 : Nat) ({ cls := "java/lang/StringBuilder", name := "append", desc := "(C)Ljava/lang/StringBuilder;" } : Jvm.MethodName)) ∈ lw_all := lw_g (lw_at lw_m5 95 rfl) rfl
theorem q1256 : (Jvm.Cond.interfaceEntry "VerbAtDusk$Chain" (29 : Nat)) ∈ lw_tbl := lw_at lw_m5 150 rfl
theorem q1257 : (Jvm.Cond.methodLink "VerbAtDusk$Chain" (29 : Nat) ({ cls := "java/util/List", name := "add", desc := "(Ljava/lang/Object;)Z" } : Jvm.MethodName)) ∈ lw_all := lw_g (lw_at lw_m5 151 rfl) rfl
theorem q1406 : (Jvm.Cond.selects "VerbAtDusk$Chain" ({ cls := "VerbAtDusk$Value", name := "at", desc := "(LVerbAtDusk$Moment;)J" } : Jvm.MethodName) ({ cls := "VerbAtDusk$Chain", name := "at", desc := "(LVerbAtDusk$Moment;)J" } : Jvm.MethodName)) ∈ lw_all := lw_g (lw_at lw_m6 60 rfl) rfl
theorem q1407 : (Jvm.Cond.instanceMethod ({ cls := "VerbAtDusk$Chain", name := "at", desc := "(LVerbAtDusk$Moment;)J" } : Jvm.MethodName)) ∈ lw_all := lw_g (lw_at lw_m6 61 rfl) rfl
theorem q1408 : (Jvm.Cond.code ({ cls := "VerbAtDusk$Chain", name := "at", desc := "(LVerbAtDusk$Moment;)J" } : Jvm.MethodName) prog_4_method_3_code (5 : Nat) (Option.some Jvm.ClassFile.FieldType.long)) ∈ lw_all := lw_g (lw_at lw_m6 62 rfl) rfl
theorem q1409 : (Jvm.Cond.interfaceEntry "VerbAtDusk$Chain" (35 : Nat)) ∈ lw_tbl := lw_at lw_m6 63 rfl
theorem q1410 : (Jvm.Cond.methodLink "VerbAtDusk$Chain" (35 : Nat) ({ cls := "java/util/List", name := "get", desc := "(I)Ljava/lang/Object;" } : Jvm.MethodName)) ∈ lw_all := lw_g (lw_at lw_m6 64 rfl) rfl
theorem q1411 : (Jvm.Cond.classLink "VerbAtDusk$Chain" (2 : Nat) "VerbAtDusk$Value") ∈ lw_all := lw_g (lw_at lw_m6 65 rfl) rfl
theorem q1412 : (Jvm.Cond.methodLink "VerbAtDusk$Chain" (39 : Nat) ({ cls := "VerbAtDusk$Value", name := "at", desc := "(LVerbAtDusk$Moment;)J" } : Jvm.MethodName)) ∈ lw_all := lw_g (lw_at lw_m6 66 rfl) rfl
theorem q1431 : (Jvm.Cond.interfaceEntry "VerbAtDusk$Chain" (43 : Nat)) ∈ lw_tbl := lw_at lw_m6 85 rfl
theorem q1432 : (Jvm.Cond.methodLink "VerbAtDusk$Chain" (43 : Nat) ({ cls := "java/util/List", name := "size", desc := "()I" } : Jvm.MethodName)) ∈ lw_all := lw_g (lw_at lw_m6 86 rfl) rfl
theorem q1433 : (Jvm.Cond.methodLink "VerbAtDusk$Chain" (47 : Nat) ({ cls := "java/lang/StringBuilder", name := "charAt", desc := "(I)C" } : Jvm.MethodName)) ∈ lw_all := lw_g (lw_at lw_m6 87 rfl) rfl
theorem q1443 : (Jvm.Cond.methodLink "VerbAtDusk$Chain" (51 : Nat) ({ cls := "VerbAtDusk$Chain", name := "two", desc := "(CJJ)J" } : Jvm.MethodName)) ∈ lw_all := lw_g (lw_at lw_m6 97 rfl) rfl
theorem q1444 : (Jvm.Cond.static ({ cls := "VerbAtDusk$Chain", name := "two", desc := "(CJJ)J" } : Jvm.MethodName)) ∈ lw_all := lw_g (lw_at lw_m6 98 rfl) rfl
theorem q1445 : (Jvm.Cond.code ({ cls := "VerbAtDusk$Chain", name := "two", desc := "(CJJ)J" } : Jvm.MethodName) prog_4_method_4_code (5 : Nat) (Option.some Jvm.ClassFile.FieldType.long)) ∈ lw_all := lw_g (lw_at lw_m6 99 rfl) rfl
theorem q1446 : (Jvm.Cond.methodLink "VerbAtDusk$Chain" (61 : Nat) ({ cls := "java/lang/Math", name := "floorDiv", desc := "(JJ)J" } : Jvm.MethodName)) ∈ lw_all := lw_g (lw_at lw_m6 100 rfl) rfl
theorem q1449 : (Jvm.Cond.methodLinkNest "VerbAtDusk$Chain" (55 : Nat) ({ cls := "VerbAtDusk", name := "held", desc := "(J)J" } : Jvm.MethodName) "VerbAtDusk") ∈ lw_tbl := lw_at lw_m6 103 rfl
theorem q2637 : (Jvm.Cond.castable "VerbAtDusk$Chain" "VerbAtDusk$Value") ∈ lw_tbl := lw_at lw_m11 91 rfl
theorem q2658 : (Jvm.Cond.castable "VerbAtDusk$Chain" "java/lang/Object") ∈ lw_tbl := lw_at lw_m11 112 rfl
theorem in_X17 : ∀ w ∈ wsX170, w ∈ lw_all := lw_in wsX170 [1118, 1120] (by decide +kernel) (by decide +kernel)
/-! VerbAtDusk$Pair -/
set_option maxRecDepth 100000
def RX18 : String := "VerbAtDusk$Pair"
def TX18 : u_T := fun k => match k with
  | 0 => ("VerbAtDusk$Pair", "most", "Z", true)
  | 1 => ("VerbAtDusk$Pair", "first", "LVerbAtDusk$Value;", true)
  | _ => ("VerbAtDusk$Pair", "second", "LVerbAtDusk$Value;", true)
def tyX18 : Nat → FieldType := fun k => match k with
  | 0 => .boolean
  | 1 => .object "VerbAtDusk$Value"
  | _ => .object "VerbAtDusk$Value"
abbrev wsX180 : List Cond := u_ws RX18 TX18 3
theorem nmX18 : ∀ a, a < 3 → ∀ b, b < 3 → a ≠ b → (TX18 a).2.1 ≠ (TX18 b).2.1 := by decide +kernel
theorem tyX18_ok : ∀ k, k < 3 → parseFieldDescriptor (TX18 k).2.2.1 = some (tyX18 k) := by decide +kernel
abbrev cX18_init : ByteArray := prog_14_method_1_code
def yX18_init : MethodName := ⟨RX18, "<init>", "(ZLVerbAtDusk$Value;LVerbAtDusk$Value;)V"⟩
def dkwX18_init_0 : List UInt8 := [42, 183, 0, 1, 42, 27, 181, 0, 7, 42, 44, 181, 0, 13, 42, 45, 181, 0, 17, 177]
abbrev dktX18_init_0 : List UInt8 := dkwX18_init_0 ++ []
theorem dksX18_init_0 : cX18_init.data.toList.drop 0 = dktX18_init_0 := by decide +kernel
theorem dX18_init_0 : decode cX18_init 0 = .ok (.aload_n 0, 1) := dk_42 (dk_at dksX18_init_0 0 rfl rfl)
theorem dX18_init_1 : decode cX18_init 1 = .ok (.invokespecial 1, 3) := dk_183 0 1 (dk_at dksX18_init_0 1 rfl rfl)
theorem dX18_init_4 : decode cX18_init 4 = .ok (.aload_n 0, 1) := dk_42 (dk_at dksX18_init_0 4 rfl rfl)
theorem dX18_init_5 : decode cX18_init 5 = .ok (.iload_n 1, 1) := dk_27 (dk_at dksX18_init_0 5 rfl rfl)
theorem dX18_init_6 : decode cX18_init 6 = .ok (.putfield 7, 3) := dk_181 0 7 (dk_at dksX18_init_0 6 rfl rfl)
theorem dX18_init_9 : decode cX18_init 9 = .ok (.aload_n 0, 1) := dk_42 (dk_at dksX18_init_0 9 rfl rfl)
theorem dX18_init_10 : decode cX18_init 10 = .ok (.aload_n 2, 1) := dk_44 (dk_at dksX18_init_0 10 rfl rfl)
theorem dX18_init_11 : decode cX18_init 11 = .ok (.putfield 13, 3) := dk_181 0 13 (dk_at dksX18_init_0 11 rfl rfl)
theorem dX18_init_14 : decode cX18_init 14 = .ok (.aload_n 0, 1) := dk_42 (dk_at dksX18_init_0 14 rfl rfl)
theorem dX18_init_15 : decode cX18_init 15 = .ok (.aload_n 3, 1) := dk_45 (dk_at dksX18_init_0 15 rfl rfl)
theorem dX18_init_16 : decode cX18_init 16 = .ok (.putfield 17, 3) := dk_181 0 17 (dk_at dksX18_init_0 16 rfl rfl)
theorem dX18_init_19 : decode cX18_init 19 = .ok (.return_, 1) := dk_177 (dk_at dksX18_init_0 19 rfl rfl)
abbrev cX18_at : ByteArray := prog_14_method_2_code
def yX18_at : MethodName := ⟨RX18, "at", "(LVerbAtDusk$Moment;)J"⟩
def dkwX18_at_1 : List UInt8 := [22, 4, 148, 158, 0, 7, 4, 167, 0, 4, 3, 160, 0, 7, 32, 167, 0, 5, 22, 4, 173]
abbrev dktX18_at_1 : List UInt8 := dkwX18_at_1 ++ []
def dkwX18_at_0 : List UInt8 := [42, 180, 0, 13, 43, 182, 0, 20, 65, 42, 180, 0, 17, 43, 182, 0, 20, 55, 4, 42, 180, 0, 7, 32]
abbrev dktX18_at_0 : List UInt8 := dkwX18_at_0 ++ dktX18_at_1
theorem dksX18_at_0 : cX18_at.data.toList.drop 0 = dktX18_at_0 := by decide +kernel
theorem dksX18_at_1 : cX18_at.data.toList.drop 24 = dktX18_at_1 := dk_seg dksX18_at_0 24 rfl rfl
theorem dX18_at_0 : decode cX18_at 0 = .ok (.aload_n 0, 1) := dk_42 (dk_at dksX18_at_0 0 rfl rfl)
theorem dX18_at_1 : decode cX18_at 1 = .ok (.getfield 13, 3) := dk_180 0 13 (dk_at dksX18_at_0 1 rfl rfl)
theorem dX18_at_4 : decode cX18_at 4 = .ok (.aload_n 1, 1) := dk_43 (dk_at dksX18_at_0 4 rfl rfl)
theorem dX18_at_5 : decode cX18_at 5 = .ok (.invokevirtual 20, 3) := dk_182 0 20 (dk_at dksX18_at_0 5 rfl rfl)
theorem dX18_at_8 : decode cX18_at 8 = .ok (.lstore_n 2, 1) := dk_65 (dk_at dksX18_at_0 8 rfl rfl)
theorem dX18_at_9 : decode cX18_at 9 = .ok (.aload_n 0, 1) := dk_42 (dk_at dksX18_at_0 9 rfl rfl)
theorem dX18_at_10 : decode cX18_at 10 = .ok (.getfield 17, 3) := dk_180 0 17 (dk_at dksX18_at_0 10 rfl rfl)
theorem dX18_at_13 : decode cX18_at 13 = .ok (.aload_n 1, 1) := dk_43 (dk_at dksX18_at_0 13 rfl rfl)
theorem dX18_at_14 : decode cX18_at 14 = .ok (.invokevirtual 20, 3) := dk_182 0 20 (dk_at dksX18_at_0 14 rfl rfl)
theorem dX18_at_17 : decode cX18_at 17 = .ok (.lstore 4, 2) := dk_55 4 (dk_at dksX18_at_0 17 rfl rfl)
theorem dX18_at_19 : decode cX18_at 19 = .ok (.aload_n 0, 1) := dk_42 (dk_at dksX18_at_0 19 rfl rfl)
theorem dX18_at_20 : decode cX18_at 20 = .ok (.getfield 7, 3) := dk_180 0 7 (dk_at dksX18_at_0 20 rfl rfl)
theorem dX18_at_23 : decode cX18_at 23 = .ok (.lload_n 2, 1) := dk_32 (dk_at dksX18_at_0 23 rfl rfl)
theorem dX18_at_24 : decode cX18_at 24 = .ok (.lload 4, 2) := dk_22 4 (dk_at dksX18_at_1 0 rfl rfl)
theorem dX18_at_26 : decode cX18_at 26 = .ok (.lcmp, 1) := dk_148 (dk_at dksX18_at_1 2 rfl rfl)
theorem dX18_at_27 : decode cX18_at 27 = .ok (.ifCond .le 7, 3) := dk_158 0 7 (dk_at dksX18_at_1 3 rfl rfl)
theorem dX18_at_30 : decode cX18_at 30 = .ok (.iconst 1, 1) := dk_4 (dk_at dksX18_at_1 6 rfl rfl)
theorem dX18_at_31 : decode cX18_at 31 = .ok (.goto 4, 3) := dk_167 0 4 (dk_at dksX18_at_1 7 rfl rfl)
theorem dX18_at_34 : decode cX18_at 34 = .ok (.iconst 0, 1) := dk_3 (dk_at dksX18_at_1 10 rfl rfl)
theorem dX18_at_35 : decode cX18_at 35 = .ok (.if_icmp .ne 7, 3) := dk_160 0 7 (dk_at dksX18_at_1 11 rfl rfl)
theorem dX18_at_38 : decode cX18_at 38 = .ok (.lload_n 2, 1) := dk_32 (dk_at dksX18_at_1 14 rfl rfl)
theorem dX18_at_39 : decode cX18_at 39 = .ok (.goto 5, 3) := dk_167 0 5 (dk_at dksX18_at_1 15 rfl rfl)
theorem dX18_at_42 : decode cX18_at 42 = .ok (.lload 4, 2) := dk_22 4 (dk_at dksX18_at_1 18 rfl rfl)
theorem dX18_at_44 : decode cX18_at 44 = .ok (.lreturn, 1) := dk_173 (dk_at dksX18_at_1 20 rfl rfl)
theorem q182 : (Jvm.Cond.initialized "VerbAtDusk$Pair") ∈ lw_all := lw_g (lw_at lw_m1 36 rfl) rfl
theorem q962 : (Jvm.Cond.selects "VerbAtDusk$Pair" ({ cls := "java/lang/Object", name := "getClass", desc := "()Ljava/lang/Class;" } : Jvm.MethodName) ({ cls := "java/lang/Object", name := "getClass", desc := "()Ljava/lang/Class;" } : Jvm.MethodName)) ∈ lw_all := lw_g (lw_at lw_m4 96 rfl) rfl
theorem q1136 : (Jvm.Cond.instantiable "VerbAtDusk$Pair" (3 : Nat)) ∈ lw_all := lw_g (lw_at lw_m5 30 rfl) rfl
theorem q1138 : (Jvm.Cond.instanceMethod ({ cls := "VerbAtDusk$Pair", name := "<init>", desc := "(ZLVerbAtDusk$Value;LVerbAtDusk$Value;)V" } : Jvm.MethodName)) ∈ lw_all := lw_g (lw_at lw_m5 32 rfl) rfl
theorem q1139 : (Jvm.Cond.code ({ cls := "VerbAtDusk$Pair", name := "<init>", desc := "(ZLVerbAtDusk$Value;LVerbAtDusk$Value;)V" } : Jvm.MethodName) prog_14_method_1_code (4 : Nat) (Option.none : Option Jvm.ClassFile.FieldType)) ∈ lw_all := lw_g (lw_at lw_m5 33 rfl) rfl
theorem q1140 : (Jvm.Cond.methodLinkNest "VerbAtDusk$Pair" (1 : Nat) ({ cls := "VerbAtDusk$Value", name := "<init>", desc := "()V" } : Jvm.MethodName) "VerbAtDusk") ∈ lw_tbl := lw_at lw_m5 34 rfl
theorem q1141 : (Jvm.Cond.fieldLink "VerbAtDusk$Pair" (7 : Nat) "VerbAtDusk$Pair" "most" "Z") ∈ lw_all := lw_g (lw_at lw_m5 35 rfl) rfl
theorem q1142 : (Jvm.Cond.fieldLink "VerbAtDusk$Pair" (13 : Nat) "VerbAtDusk$Pair" "first" "LVerbAtDusk$Value;") ∈ lw_all := lw_g (lw_at lw_m5 36 rfl) rfl
theorem q1143 : (Jvm.Cond.fieldLink "VerbAtDusk$Pair" (17 : Nat) "VerbAtDusk$Pair" "second" "LVerbAtDusk$Value;") ∈ lw_all := lw_g (lw_at lw_m5 37 rfl) rfl
theorem q1144 : (Jvm.Cond.laysFinal "VerbAtDusk$Pair" "VerbAtDusk$Pair" "most" "Z") ∈ lw_all := lw_g (lw_at lw_m5 38 rfl) rfl
theorem q1145 : (Jvm.Cond.soleField "VerbAtDusk$Pair" "most") ∈ lw_all := lw_g (lw_at lw_m5 39 rfl) rfl
theorem q1146 : (Jvm.Cond.laysFinal "VerbAtDusk$Pair" "VerbAtDusk$Pair" "first" "LVerbAtDusk$Value;") ∈ lw_all := lw_g (lw_at lw_m5 40 rfl) rfl
theorem q1147 : (Jvm.Cond.soleField "VerbAtDusk$Pair" "first") ∈ lw_all := lw_g (lw_at lw_m5 41 rfl) rfl
theorem q1148 : (Jvm.Cond.laysFinal "VerbAtDusk$Pair" "VerbAtDusk$Pair" "second" "LVerbAtDusk$Value;") ∈ lw_all := lw_g (lw_at lw_m5 42 rfl) rfl
theorem q1149 : (Jvm.Cond.soleField "VerbAtDusk$Pair" "second") ∈ lw_all := lw_g (lw_at lw_m5 43 rfl) rfl
theorem q1150 : (Jvm.Cond.superclass "VerbAtDusk$Pair" "VerbAtDusk$Value") ∈ lw_all := lw_g (lw_at lw_m5 44 rfl) rfl
theorem q1418 : (Jvm.Cond.instanceMethod ({ cls := "VerbAtDusk$Pair", name := "at", desc := "(LVerbAtDusk$Moment;)J" } : Jvm.MethodName)) ∈ lw_all := lw_g (lw_at lw_m6 72 rfl) rfl
theorem q1419 : (Jvm.Cond.code ({ cls := "VerbAtDusk$Pair", name := "at", desc := "(LVerbAtDusk$Moment;)J" } : Jvm.MethodName) prog_14_method_2_code (6 : Nat) (Option.some Jvm.ClassFile.FieldType.long)) ∈ lw_all := lw_g (lw_at lw_m6 73 rfl) rfl
theorem q1420 : (Jvm.Cond.methodLink "VerbAtDusk$Pair" (20 : Nat) ({ cls := "VerbAtDusk$Value", name := "at", desc := "(LVerbAtDusk$Moment;)J" } : Jvm.MethodName)) ∈ lw_all := lw_g (lw_at lw_m6 74 rfl) rfl
theorem q1452 : (Jvm.Cond.selects "VerbAtDusk$Pair" ({ cls := "VerbAtDusk$Value", name := "at", desc := "(LVerbAtDusk$Moment;)J" } : Jvm.MethodName) ({ cls := "VerbAtDusk$Pair", name := "at", desc := "(LVerbAtDusk$Moment;)J" } : Jvm.MethodName)) ∈ lw_all := lw_g (lw_at lw_m6 106 rfl) rfl
theorem q2640 : (Jvm.Cond.castable "VerbAtDusk$Pair" "VerbAtDusk$Value") ∈ lw_tbl := lw_at lw_m11 94 rfl
theorem q2660 : (Jvm.Cond.castable "VerbAtDusk$Pair" "java/lang/Object") ∈ lw_tbl := lw_at lw_m11 114 rfl
theorem in_X18 : ∀ w ∈ wsX180, w ∈ lw_all := lw_in wsX180 [1144, 1146, 1148] (by decide +kernel) (by decide +kernel)
/-! VerbAtDusk$Fixed -/
set_option maxRecDepth 100000
def RX19 : String := "VerbAtDusk$Fixed"
def TX19 : u_T := fun k => match k with
  | _ => ("VerbAtDusk$Fixed", "value", "J", true)
def tyX19 : Nat → FieldType := fun k => match k with
  | _ => .long
abbrev wsX190 : List Cond := u_ws RX19 TX19 1
theorem nmX19 : ∀ a, a < 1 → ∀ b, b < 1 → a ≠ b → (TX19 a).2.1 ≠ (TX19 b).2.1 := by decide +kernel
theorem tyX19_ok : ∀ k, k < 1 → parseFieldDescriptor (TX19 k).2.2.1 = some (tyX19 k) := by decide +kernel
abbrev cX19_init : ByteArray := prog_8_method_1_code
def yX19_init : MethodName := ⟨RX19, "<init>", "(J)V"⟩
def dkwX19_init_0 : List UInt8 := [42, 183, 0, 1, 42, 31, 181, 0, 7, 177]
abbrev dktX19_init_0 : List UInt8 := dkwX19_init_0 ++ []
theorem dksX19_init_0 : cX19_init.data.toList.drop 0 = dktX19_init_0 := by decide +kernel
theorem dX19_init_0 : decode cX19_init 0 = .ok (.aload_n 0, 1) := dk_42 (dk_at dksX19_init_0 0 rfl rfl)
theorem dX19_init_1 : decode cX19_init 1 = .ok (.invokespecial 1, 3) := dk_183 0 1 (dk_at dksX19_init_0 1 rfl rfl)
theorem dX19_init_4 : decode cX19_init 4 = .ok (.aload_n 0, 1) := dk_42 (dk_at dksX19_init_0 4 rfl rfl)
theorem dX19_init_5 : decode cX19_init 5 = .ok (.lload_n 1, 1) := dk_31 (dk_at dksX19_init_0 5 rfl rfl)
theorem dX19_init_6 : decode cX19_init 6 = .ok (.putfield 7, 3) := dk_181 0 7 (dk_at dksX19_init_0 6 rfl rfl)
theorem dX19_init_9 : decode cX19_init 9 = .ok (.return_, 1) := dk_177 (dk_at dksX19_init_0 9 rfl rfl)
abbrev cX19_at : ByteArray := prog_8_method_2_code
def yX19_at : MethodName := ⟨RX19, "at", "(LVerbAtDusk$Moment;)J"⟩
theorem dX19_at_0 : decode cX19_at 0 = .ok (.aload_n 0, 1) := by decide +kernel
theorem dX19_at_1 : decode cX19_at 1 = .ok (.getfield 7, 3) := by decide +kernel
theorem dX19_at_4 : decode cX19_at 4 = .ok (.lreturn, 1) := by decide +kernel
theorem q183 : (Jvm.Cond.initialized "VerbAtDusk$Fixed") ∈ lw_all := lw_g (lw_at lw_m1 37 rfl) rfl
theorem q957 : (Jvm.Cond.selects "VerbAtDusk$Fixed" ({ cls := "java/lang/Object", name := "getClass", desc := "()Ljava/lang/Class;" } : Jvm.MethodName) ({ cls := "java/lang/Object", name := "getClass", desc := "()Ljava/lang/Class;" } : Jvm.MethodName)) ∈ lw_all := lw_g (lw_at lw_m4 91 rfl) rfl
theorem q1152 : (Jvm.Cond.instantiable "VerbAtDusk$Fixed" (1 : Nat)) ∈ lw_all := lw_g (lw_at lw_m5 46 rfl) rfl
theorem q1154 : (Jvm.Cond.instanceMethod ({ cls := "VerbAtDusk$Fixed", name := "<init>", desc := "(J)V" } : Jvm.MethodName)) ∈ lw_all := lw_g (lw_at lw_m5 48 rfl) rfl
theorem q1155 : (Jvm.Cond.code ({ cls := "VerbAtDusk$Fixed", name := "<init>", desc := "(J)V" } : Jvm.MethodName) prog_8_method_1_code (3 : Nat) (Option.none : Option Jvm.ClassFile.FieldType)) ∈ lw_all := lw_g (lw_at lw_m5 49 rfl) rfl
theorem q1156 : (Jvm.Cond.methodLinkNest "VerbAtDusk$Fixed" (1 : Nat) ({ cls := "VerbAtDusk$Value", name := "<init>", desc := "()V" } : Jvm.MethodName) "VerbAtDusk") ∈ lw_tbl := lw_at lw_m5 50 rfl
theorem q1157 : (Jvm.Cond.fieldLink "VerbAtDusk$Fixed" (7 : Nat) "VerbAtDusk$Fixed" "value" "J") ∈ lw_all := lw_g (lw_at lw_m5 51 rfl) rfl
theorem q1158 : (Jvm.Cond.laysFinal "VerbAtDusk$Fixed" "VerbAtDusk$Fixed" "value" "J") ∈ lw_all := lw_g (lw_at lw_m5 52 rfl) rfl
theorem q1159 : (Jvm.Cond.soleField "VerbAtDusk$Fixed" "value") ∈ lw_all := lw_g (lw_at lw_m5 53 rfl) rfl
theorem q1160 : (Jvm.Cond.superclass "VerbAtDusk$Fixed" "VerbAtDusk$Value") ∈ lw_all := lw_g (lw_at lw_m5 54 rfl) rfl
theorem q1413 : (Jvm.Cond.instanceMethod ({ cls := "VerbAtDusk$Fixed", name := "at", desc := "(LVerbAtDusk$Moment;)J" } : Jvm.MethodName)) ∈ lw_all := lw_g (lw_at lw_m6 67 rfl) rfl
theorem q1414 : (Jvm.Cond.code ({ cls := "VerbAtDusk$Fixed", name := "at", desc := "(LVerbAtDusk$Moment;)J" } : Jvm.MethodName) prog_8_method_2_code (2 : Nat) (Option.some Jvm.ClassFile.FieldType.long)) ∈ lw_all := lw_g (lw_at lw_m6 68 rfl) rfl
theorem q1450 : (Jvm.Cond.selects "VerbAtDusk$Fixed" ({ cls := "VerbAtDusk$Value", name := "at", desc := "(LVerbAtDusk$Moment;)J" } : Jvm.MethodName) ({ cls := "VerbAtDusk$Fixed", name := "at", desc := "(LVerbAtDusk$Moment;)J" } : Jvm.MethodName)) ∈ lw_all := lw_g (lw_at lw_m6 104 rfl) rfl
theorem q2638 : (Jvm.Cond.castable "VerbAtDusk$Fixed" "VerbAtDusk$Value") ∈ lw_tbl := lw_at lw_m11 92 rfl
theorem q2661 : (Jvm.Cond.castable "VerbAtDusk$Fixed" "java/lang/Object") ∈ lw_tbl := lw_at lw_m11 115 rfl
theorem in_X19 : ∀ w ∈ wsX190, w ∈ lw_all := lw_in wsX190 [1158] (by decide +kernel) (by decide +kernel)
/-! VerbAtDusk$Asked -/
set_option maxRecDepth 100000
def RX20 : String := "VerbAtDusk$Asked"
def TX20 : u_T := fun k => match k with
  | _ => ("VerbAtDusk$Asked", "what", "I", true)
def tyX20 : Nat → FieldType := fun k => match k with
  | _ => .int
abbrev wsX200 : List Cond := u_ws RX20 TX20 1
theorem nmX20 : ∀ a, a < 1 → ∀ b, b < 1 → a ≠ b → (TX20 a).2.1 ≠ (TX20 b).2.1 := by decide +kernel
theorem tyX20_ok : ∀ k, k < 1 → parseFieldDescriptor (TX20 k).2.2.1 = some (tyX20 k) := by decide +kernel
abbrev cX20_init : ByteArray := prog_3_method_1_code
def yX20_init : MethodName := ⟨RX20, "<init>", "(I)V"⟩
def dkwX20_init_0 : List UInt8 := [42, 183, 0, 1, 42, 27, 181, 0, 7, 177]
abbrev dktX20_init_0 : List UInt8 := dkwX20_init_0 ++ []
theorem dksX20_init_0 : cX20_init.data.toList.drop 0 = dktX20_init_0 := by decide +kernel
theorem dX20_init_0 : decode cX20_init 0 = .ok (.aload_n 0, 1) := dk_42 (dk_at dksX20_init_0 0 rfl rfl)
theorem dX20_init_1 : decode cX20_init 1 = .ok (.invokespecial 1, 3) := dk_183 0 1 (dk_at dksX20_init_0 1 rfl rfl)
theorem dX20_init_4 : decode cX20_init 4 = .ok (.aload_n 0, 1) := dk_42 (dk_at dksX20_init_0 4 rfl rfl)
theorem dX20_init_5 : decode cX20_init 5 = .ok (.iload_n 1, 1) := dk_27 (dk_at dksX20_init_0 5 rfl rfl)
theorem dX20_init_6 : decode cX20_init 6 = .ok (.putfield 7, 3) := dk_181 0 7 (dk_at dksX20_init_0 6 rfl rfl)
theorem dX20_init_9 : decode cX20_init 9 = .ok (.return_, 1) := dk_177 (dk_at dksX20_init_0 9 rfl rfl)
abbrev cX20_at : ByteArray := prog_3_method_2_code
def yX20_at : MethodName := ⟨RX20, "at", "(LVerbAtDusk$Moment;)J"⟩
def dkwX20_at_0 : List UInt8 := [43, 180, 0, 13, 42, 180, 0, 7, 47, 184, 0, 19, 173]
abbrev dktX20_at_0 : List UInt8 := dkwX20_at_0 ++ []
theorem dksX20_at_0 : cX20_at.data.toList.drop 0 = dktX20_at_0 := by decide +kernel
theorem dX20_at_0 : decode cX20_at 0 = .ok (.aload_n 1, 1) := dk_43 (dk_at dksX20_at_0 0 rfl rfl)
theorem dX20_at_1 : decode cX20_at 1 = .ok (.getfield 13, 3) := dk_180 0 13 (dk_at dksX20_at_0 1 rfl rfl)
theorem dX20_at_4 : decode cX20_at 4 = .ok (.aload_n 0, 1) := dk_42 (dk_at dksX20_at_0 4 rfl rfl)
theorem dX20_at_5 : decode cX20_at 5 = .ok (.getfield 7, 3) := dk_180 0 7 (dk_at dksX20_at_0 5 rfl rfl)
theorem dX20_at_8 : decode cX20_at 8 = .ok (.laload, 1) := dk_47 (dk_at dksX20_at_0 8 rfl rfl)
theorem dX20_at_9 : decode cX20_at 9 = .ok (.invokestatic 19, 3) := dk_184 0 19 (dk_at dksX20_at_0 9 rfl rfl)
theorem dX20_at_12 : decode cX20_at 12 = .ok (.lreturn, 1) := dk_173 (dk_at dksX20_at_0 12 rfl rfl)
theorem q184 : (Jvm.Cond.initialized "VerbAtDusk$Asked") ∈ lw_all := lw_g (lw_at lw_m1 38 rfl) rfl
theorem q384 : (Jvm.Cond.fieldLinkNest "VerbAtDusk$Asked" (13 : Nat) "VerbAtDusk$Moment" "of" "[J" "VerbAtDusk") ∈ lw_tbl := lw_at lw_m1 238 rfl
theorem q952 : (Jvm.Cond.selects "VerbAtDusk$Asked" ({ cls := "java/lang/Object", name := "getClass", desc := "()Ljava/lang/Class;" } : Jvm.MethodName) ({ cls := "java/lang/Object", name := "getClass", desc := "()Ljava/lang/Class;" } : Jvm.MethodName)) ∈ lw_all := lw_g (lw_at lw_m4 86 rfl) rfl
theorem q1164 : (Jvm.Cond.instantiable "VerbAtDusk$Asked" (1 : Nat)) ∈ lw_all := lw_g (lw_at lw_m5 58 rfl) rfl
theorem q1166 : (Jvm.Cond.instanceMethod ({ cls := "VerbAtDusk$Asked", name := "<init>", desc := "(I)V" } : Jvm.MethodName)) ∈ lw_all := lw_g (lw_at lw_m5 60 rfl) rfl
theorem q1167 : (Jvm.Cond.code ({ cls := "VerbAtDusk$Asked", name := "<init>", desc := "(I)V" } : Jvm.MethodName) prog_3_method_1_code (2 : Nat) (Option.none : Option Jvm.ClassFile.FieldType)) ∈ lw_all := lw_g (lw_at lw_m5 61 rfl) rfl
theorem q1168 : (Jvm.Cond.methodLinkNest "VerbAtDusk$Asked" (1 : Nat) ({ cls := "VerbAtDusk$Value", name := "<init>", desc := "()V" } : Jvm.MethodName) "VerbAtDusk") ∈ lw_tbl := lw_at lw_m5 62 rfl
theorem q1169 : (Jvm.Cond.fieldLink "VerbAtDusk$Asked" (7 : Nat) "VerbAtDusk$Asked" "what" "I") ∈ lw_all := lw_g (lw_at lw_m5 63 rfl) rfl
theorem q1170 : (Jvm.Cond.laysFinal "VerbAtDusk$Asked" "VerbAtDusk$Asked" "what" "I") ∈ lw_all := lw_g (lw_at lw_m5 64 rfl) rfl
theorem q1171 : (Jvm.Cond.soleField "VerbAtDusk$Asked" "what") ∈ lw_all := lw_g (lw_at lw_m5 65 rfl) rfl
theorem q1172 : (Jvm.Cond.superclass "VerbAtDusk$Asked" "VerbAtDusk$Value") ∈ lw_all := lw_g (lw_at lw_m5 66 rfl) rfl
theorem q1392 : (Jvm.Cond.selects "VerbAtDusk$Asked" ({ cls := "VerbAtDusk$Value", name := "at", desc := "(LVerbAtDusk$Moment;)J" } : Jvm.MethodName) ({ cls := "VerbAtDusk$Asked", name := "at", desc := "(LVerbAtDusk$Moment;)J" } : Jvm.MethodName)) ∈ lw_all := lw_g (lw_at lw_m6 46 rfl) rfl
theorem q1393 : (Jvm.Cond.instanceMethod ({ cls := "VerbAtDusk$Asked", name := "at", desc := "(LVerbAtDusk$Moment;)J" } : Jvm.MethodName)) ∈ lw_all := lw_g (lw_at lw_m6 47 rfl) rfl
theorem q1394 : (Jvm.Cond.code ({ cls := "VerbAtDusk$Asked", name := "at", desc := "(LVerbAtDusk$Moment;)J" } : Jvm.MethodName) prog_3_method_2_code (2 : Nat) (Option.some Jvm.ClassFile.FieldType.long)) ∈ lw_all := lw_g (lw_at lw_m6 48 rfl) rfl
theorem q1395 : (Jvm.Cond.methodLinkNest "VerbAtDusk$Asked" (19 : Nat) ({ cls := "VerbAtDusk", name := "held", desc := "(J)J" } : Jvm.MethodName) "VerbAtDusk") ∈ lw_tbl := lw_at lw_m6 49 rfl
theorem q2636 : (Jvm.Cond.castable "VerbAtDusk$Asked" "VerbAtDusk$Value") ∈ lw_tbl := lw_at lw_m11 90 rfl
theorem q2662 : (Jvm.Cond.castable "VerbAtDusk$Asked" "java/lang/Object") ∈ lw_tbl := lw_at lw_m11 116 rfl
theorem in_X20 : ∀ w ∈ wsX200, w ∈ lw_all := lw_in wsX200 [1170] (by decide +kernel) (by decide +kernel)
/-! VerbAtDusk$Looked -/
set_option maxRecDepth 100000
def RX21 : String := "VerbAtDusk$Looked"
def TX21 : u_T := fun k => match k with
  | 0 => ("VerbAtDusk$Looked", "what", "I", true)
  | 1 => ("VerbAtDusk$Looked", "of", "LVerbAtDusk$Value;", true)
  | _ => ("VerbAtDusk$Looked", "this$0", "LVerbAtDusk;", true)
def tyX21 : Nat → FieldType := fun k => match k with
  | 0 => .int
  | 1 => .object "VerbAtDusk$Value"
  | _ => .object "VerbAtDusk"
abbrev wsX210 : List Cond := u_ws RX21 TX21 3
theorem nmX21 : ∀ a, a < 3 → ∀ b, b < 3 → a ≠ b → (TX21 a).2.1 ≠ (TX21 b).2.1 := by decide +kernel
theorem tyX21_ok : ∀ k, k < 3 → parseFieldDescriptor (TX21 k).2.2.1 = some (tyX21 k) := by decide +kernel
abbrev cX21_init : ByteArray := prog_10_method_1_code
def yX21_init : MethodName := ⟨RX21, "<init>", "(LVerbAtDusk;ILVerbAtDusk$Value;)V"⟩
def dkwX21_init_0 : List UInt8 := [42, 43, 181, 0, 1, 42, 183, 0, 7, 42, 28, 181, 0, 13, 42, 45, 181, 0, 17, 177]
abbrev dktX21_init_0 : List UInt8 := dkwX21_init_0 ++ []
theorem dksX21_init_0 : cX21_init.data.toList.drop 0 = dktX21_init_0 := by decide +kernel
theorem dX21_init_0 : decode cX21_init 0 = .ok (.aload_n 0, 1) := dk_42 (dk_at dksX21_init_0 0 rfl rfl)
theorem dX21_init_1 : decode cX21_init 1 = .ok (.aload_n 1, 1) := dk_43 (dk_at dksX21_init_0 1 rfl rfl)
theorem dX21_init_2 : decode cX21_init 2 = .ok (.putfield 1, 3) := dk_181 0 1 (dk_at dksX21_init_0 2 rfl rfl)
theorem dX21_init_5 : decode cX21_init 5 = .ok (.aload_n 0, 1) := dk_42 (dk_at dksX21_init_0 5 rfl rfl)
theorem dX21_init_6 : decode cX21_init 6 = .ok (.invokespecial 7, 3) := dk_183 0 7 (dk_at dksX21_init_0 6 rfl rfl)
theorem dX21_init_9 : decode cX21_init 9 = .ok (.aload_n 0, 1) := dk_42 (dk_at dksX21_init_0 9 rfl rfl)
theorem dX21_init_10 : decode cX21_init 10 = .ok (.iload_n 2, 1) := dk_28 (dk_at dksX21_init_0 10 rfl rfl)
theorem dX21_init_11 : decode cX21_init 11 = .ok (.putfield 13, 3) := dk_181 0 13 (dk_at dksX21_init_0 11 rfl rfl)
theorem dX21_init_14 : decode cX21_init 14 = .ok (.aload_n 0, 1) := dk_42 (dk_at dksX21_init_0 14 rfl rfl)
theorem dX21_init_15 : decode cX21_init 15 = .ok (.aload_n 3, 1) := dk_45 (dk_at dksX21_init_0 15 rfl rfl)
theorem dX21_init_16 : decode cX21_init 16 = .ok (.putfield 17, 3) := dk_181 0 17 (dk_at dksX21_init_0 16 rfl rfl)
theorem dX21_init_19 : decode cX21_init 19 = .ok (.return_, 1) := dk_177 (dk_at dksX21_init_0 19 rfl rfl)
abbrev cX21_at : ByteArray := prog_10_method_2_code
def yX21_at : MethodName := ⟨RX21, "at", "(LVerbAtDusk$Moment;)J"⟩
def dkwX21_at_0 : List UInt8 := [42, 180, 0, 1, 42, 180, 0, 13, 42, 180, 0, 17, 43, 182, 0, 21, 182, 0, 25, 184, 0, 31, 173]
abbrev dktX21_at_0 : List UInt8 := dkwX21_at_0 ++ []
theorem dksX21_at_0 : cX21_at.data.toList.drop 0 = dktX21_at_0 := by decide +kernel
theorem dX21_at_0 : decode cX21_at 0 = .ok (.aload_n 0, 1) := dk_42 (dk_at dksX21_at_0 0 rfl rfl)
theorem dX21_at_1 : decode cX21_at 1 = .ok (.getfield 1, 3) := dk_180 0 1 (dk_at dksX21_at_0 1 rfl rfl)
theorem dX21_at_4 : decode cX21_at 4 = .ok (.aload_n 0, 1) := dk_42 (dk_at dksX21_at_0 4 rfl rfl)
theorem dX21_at_5 : decode cX21_at 5 = .ok (.getfield 13, 3) := dk_180 0 13 (dk_at dksX21_at_0 5 rfl rfl)
theorem dX21_at_8 : decode cX21_at 8 = .ok (.aload_n 0, 1) := dk_42 (dk_at dksX21_at_0 8 rfl rfl)
theorem dX21_at_9 : decode cX21_at 9 = .ok (.getfield 17, 3) := dk_180 0 17 (dk_at dksX21_at_0 9 rfl rfl)
theorem dX21_at_12 : decode cX21_at 12 = .ok (.aload_n 1, 1) := dk_43 (dk_at dksX21_at_0 12 rfl rfl)
theorem dX21_at_13 : decode cX21_at 13 = .ok (.invokevirtual 21, 3) := dk_182 0 21 (dk_at dksX21_at_0 13 rfl rfl)
theorem dX21_at_16 : decode cX21_at 16 = .ok (.invokevirtual 25, 3) := dk_182 0 25 (dk_at dksX21_at_0 16 rfl rfl)
theorem dX21_at_19 : decode cX21_at 19 = .ok (.invokestatic 31, 3) := dk_184 0 31 (dk_at dksX21_at_0 19 rfl rfl)
theorem dX21_at_22 : decode cX21_at 22 = .ok (.lreturn, 1) := dk_173 (dk_at dksX21_at_0 22 rfl rfl)
theorem q185 : (Jvm.Cond.initialized "VerbAtDusk$Looked") ∈ lw_all := lw_g (lw_at lw_m1 39 rfl) rfl
theorem q959 : (Jvm.Cond.selects "VerbAtDusk$Looked" ({ cls := "java/lang/Object", name := "getClass", desc := "()Ljava/lang/Class;" } : Jvm.MethodName) ({ cls := "java/lang/Object", name := "getClass", desc := "()Ljava/lang/Class;" } : Jvm.MethodName)) ∈ lw_all := lw_g (lw_at lw_m4 93 rfl) rfl
theorem q1180 : (Jvm.Cond.instantiable "VerbAtDusk$Looked" (3 : Nat)) ∈ lw_all := lw_g (lw_at lw_m5 74 rfl) rfl
theorem q1182 : (Jvm.Cond.instanceMethod ({ cls := "VerbAtDusk$Looked", name := "<init>", desc := "(LVerbAtDusk;ILVerbAtDusk$Value;)V" } : Jvm.MethodName)) ∈ lw_all := lw_g (lw_at lw_m5 76 rfl) rfl
theorem q1183 : (Jvm.Cond.code ({ cls := "VerbAtDusk$Looked", name := "<init>", desc := "(LVerbAtDusk;ILVerbAtDusk$Value;)V" } : Jvm.MethodName) prog_10_method_1_code (4 : Nat) (Option.none : Option Jvm.ClassFile.FieldType)) ∈ lw_all := lw_g (lw_at lw_m5 77 rfl) rfl
theorem q1184 : (Jvm.Cond.methodLinkNest "VerbAtDusk$Looked" (7 : Nat) ({ cls := "VerbAtDusk$Value", name := "<init>", desc := "()V" } : Jvm.MethodName) "VerbAtDusk") ∈ lw_tbl := lw_at lw_m5 78 rfl
theorem q1185 : (Jvm.Cond.fieldLink "VerbAtDusk$Looked" (13 : Nat) "VerbAtDusk$Looked" "what" "I") ∈ lw_all := lw_g (lw_at lw_m5 79 rfl) rfl
theorem q1186 : (Jvm.Cond.fieldLink "VerbAtDusk$Looked" (17 : Nat) "VerbAtDusk$Looked" "of" "LVerbAtDusk$Value;") ∈ lw_all := lw_g (lw_at lw_m5 80 rfl) rfl
theorem q1187 : (Jvm.Cond.fieldLink "VerbAtDusk$Looked" (1 : Nat) "VerbAtDusk$Looked" "this$0" "LVerbAtDusk;") ∈ lw_all := lw_g (lw_at lw_m5 81 rfl) rfl
theorem q1188 : (Jvm.Cond.laysFinal "VerbAtDusk$Looked" "VerbAtDusk$Looked" "what" "I") ∈ lw_all := lw_g (lw_at lw_m5 82 rfl) rfl
theorem q1189 : (Jvm.Cond.soleField "VerbAtDusk$Looked" "what") ∈ lw_all := lw_g (lw_at lw_m5 83 rfl) rfl
theorem q1190 : (Jvm.Cond.laysFinal "VerbAtDusk$Looked" "VerbAtDusk$Looked" "of" "LVerbAtDusk$Value;") ∈ lw_all := lw_g (lw_at lw_m5 84 rfl) rfl
theorem q1191 : (Jvm.Cond.soleField "VerbAtDusk$Looked" "of") ∈ lw_all := lw_g (lw_at lw_m5 85 rfl) rfl
theorem q1192 : (Jvm.Cond.laysFinal "VerbAtDusk$Looked" "VerbAtDusk$Looked" "this$0" "LVerbAtDusk;") ∈ lw_all := lw_g (lw_at lw_m5 86 rfl) rfl
theorem q1193 : (Jvm.Cond.soleField "VerbAtDusk$Looked" "this$0") ∈ lw_all := lw_g (lw_at lw_m5 87 rfl) rfl
theorem q1194 : (Jvm.Cond.superclass "VerbAtDusk$Looked" "VerbAtDusk$Value") ∈ lw_all := lw_g (lw_at lw_m5 88 rfl) rfl
theorem q1415 : (Jvm.Cond.instanceMethod ({ cls := "VerbAtDusk$Looked", name := "at", desc := "(LVerbAtDusk$Moment;)J" } : Jvm.MethodName)) ∈ lw_all := lw_g (lw_at lw_m6 69 rfl) rfl
theorem q1416 : (Jvm.Cond.code ({ cls := "VerbAtDusk$Looked", name := "at", desc := "(LVerbAtDusk$Moment;)J" } : Jvm.MethodName) prog_10_method_2_code (2 : Nat) (Option.some Jvm.ClassFile.FieldType.long)) ∈ lw_all := lw_g (lw_at lw_m6 70 rfl) rfl
theorem q1417 : (Jvm.Cond.methodLink "VerbAtDusk$Looked" (21 : Nat) ({ cls := "VerbAtDusk$Value", name := "at", desc := "(LVerbAtDusk$Moment;)J" } : Jvm.MethodName)) ∈ lw_all := lw_g (lw_at lw_m6 71 rfl) rfl
theorem q1421 : (Jvm.Cond.methodLinkNest "VerbAtDusk$Looked" (25 : Nat) ({ cls := "VerbAtDusk", name := "looked", desc := "(IJ)J" } : Jvm.MethodName) "VerbAtDusk") ∈ lw_tbl := lw_at lw_m6 75 rfl
theorem q1430 : (Jvm.Cond.methodLinkNest "VerbAtDusk$Looked" (31 : Nat) ({ cls := "VerbAtDusk", name := "held", desc := "(J)J" } : Jvm.MethodName) "VerbAtDusk") ∈ lw_tbl := lw_at lw_m6 84 rfl
theorem q1451 : (Jvm.Cond.selects "VerbAtDusk$Looked" ({ cls := "VerbAtDusk$Value", name := "at", desc := "(LVerbAtDusk$Moment;)J" } : Jvm.MethodName) ({ cls := "VerbAtDusk$Looked", name := "at", desc := "(LVerbAtDusk$Moment;)J" } : Jvm.MethodName)) ∈ lw_all := lw_g (lw_at lw_m6 105 rfl) rfl
theorem q2639 : (Jvm.Cond.castable "VerbAtDusk$Looked" "VerbAtDusk$Value") ∈ lw_tbl := lw_at lw_m11 93 rfl
theorem q2663 : (Jvm.Cond.castable "VerbAtDusk$Looked" "java/lang/Object") ∈ lw_tbl := lw_at lw_m11 117 rfl
theorem in_X21 : ∀ w ∈ wsX210, w ∈ lw_all := lw_in wsX210 [1188, 1190, 1192] (by decide +kernel) (by decide +kernel)
/-! VerbAtDusk$Than -/
set_option maxRecDepth 100000
def RX22 : String := "VerbAtDusk$Than"
def TX22 : u_T := fun k => match k with
  | 0 => ("VerbAtDusk$Than", "a", "LVerbAtDusk$Value;", true)
  | 1 => ("VerbAtDusk$Than", "b", "LVerbAtDusk$Value;", true)
  | _ => ("VerbAtDusk$Than", "sign", "I", true)
def tyX22 : Nat → FieldType := fun k => match k with
  | 0 => .object "VerbAtDusk$Value"
  | 1 => .object "VerbAtDusk$Value"
  | _ => .int
abbrev wsX220 : List Cond := u_ws RX22 TX22 3
theorem nmX22 : ∀ a, a < 3 → ∀ b, b < 3 → a ≠ b → (TX22 a).2.1 ≠ (TX22 b).2.1 := by decide +kernel
theorem tyX22_ok : ∀ k, k < 3 → parseFieldDescriptor (TX22 k).2.2.1 = some (tyX22 k) := by decide +kernel
abbrev cX22_init : ByteArray := prog_20_method_1_code
def yX22_init : MethodName := ⟨RX22, "<init>", "(LVerbAtDusk$Value;ILVerbAtDusk$Value;)V"⟩
def dkwX22_init_0 : List UInt8 := [42, 183, 0, 1, 42, 43, 181, 0, 7, 42, 28, 181, 0, 13, 42, 45, 181, 0, 17, 177]
abbrev dktX22_init_0 : List UInt8 := dkwX22_init_0 ++ []
theorem dksX22_init_0 : cX22_init.data.toList.drop 0 = dktX22_init_0 := by decide +kernel
theorem dX22_init_0 : decode cX22_init 0 = .ok (.aload_n 0, 1) := dk_42 (dk_at dksX22_init_0 0 rfl rfl)
theorem dX22_init_1 : decode cX22_init 1 = .ok (.invokespecial 1, 3) := dk_183 0 1 (dk_at dksX22_init_0 1 rfl rfl)
theorem dX22_init_4 : decode cX22_init 4 = .ok (.aload_n 0, 1) := dk_42 (dk_at dksX22_init_0 4 rfl rfl)
theorem dX22_init_5 : decode cX22_init 5 = .ok (.aload_n 1, 1) := dk_43 (dk_at dksX22_init_0 5 rfl rfl)
theorem dX22_init_6 : decode cX22_init 6 = .ok (.putfield 7, 3) := dk_181 0 7 (dk_at dksX22_init_0 6 rfl rfl)
theorem dX22_init_9 : decode cX22_init 9 = .ok (.aload_n 0, 1) := dk_42 (dk_at dksX22_init_0 9 rfl rfl)
theorem dX22_init_10 : decode cX22_init 10 = .ok (.iload_n 2, 1) := dk_28 (dk_at dksX22_init_0 10 rfl rfl)
theorem dX22_init_11 : decode cX22_init 11 = .ok (.putfield 13, 3) := dk_181 0 13 (dk_at dksX22_init_0 11 rfl rfl)
theorem dX22_init_14 : decode cX22_init 14 = .ok (.aload_n 0, 1) := dk_42 (dk_at dksX22_init_0 14 rfl rfl)
theorem dX22_init_15 : decode cX22_init 15 = .ok (.aload_n 3, 1) := dk_45 (dk_at dksX22_init_0 15 rfl rfl)
theorem dX22_init_16 : decode cX22_init 16 = .ok (.putfield 17, 3) := dk_181 0 17 (dk_at dksX22_init_0 16 rfl rfl)
theorem dX22_init_19 : decode cX22_init 19 = .ok (.return_, 1) := dk_177 (dk_at dksX22_init_0 19 rfl rfl)
abbrev cX22_holds : ByteArray := prog_20_method_2_code
def yX22_holds : MethodName := ⟨RX22, "holds", "(LVerbAtDusk$Moment;)Z"⟩
def dkwX22_holds_3 : List UInt8 := [154, 0, 7, 4, 167, 0, 4, 3, 172]
abbrev dktX22_holds_3 : List UInt8 := dkwX22_holds_3 ++ []
def dkwX22_holds_2 : List UInt8 := [16, 62, 160, 0, 18, 32, 22, 4, 148, 158, 0, 7, 4, 167, 0, 19, 3, 167, 0, 15, 32, 22, 4, 148]
abbrev dktX22_holds_2 : List UInt8 := dkwX22_holds_2 ++ dktX22_holds_3
def dkwX22_holds_1 : List UInt8 := [16, 60, 160, 0, 18, 32, 22, 4, 148, 156, 0, 7, 4, 167, 0, 43, 3, 167, 0, 39, 42, 180, 0, 13]
abbrev dktX22_holds_1 : List UInt8 := dkwX22_holds_1 ++ dktX22_holds_2
def dkwX22_holds_0 : List UInt8 := [42, 180, 0, 7, 43, 182, 0, 20, 65, 42, 180, 0, 17, 43, 182, 0, 20, 55, 4, 42, 180, 0, 13]
abbrev dktX22_holds_0 : List UInt8 := dkwX22_holds_0 ++ dktX22_holds_1
theorem dksX22_holds_0 : cX22_holds.data.toList.drop 0 = dktX22_holds_0 := by decide +kernel
theorem dksX22_holds_1 : cX22_holds.data.toList.drop 23 = dktX22_holds_1 := dk_seg dksX22_holds_0 23 rfl rfl
theorem dksX22_holds_2 : cX22_holds.data.toList.drop 47 = dktX22_holds_2 := dk_seg dksX22_holds_1 24 rfl rfl
theorem dksX22_holds_3 : cX22_holds.data.toList.drop 71 = dktX22_holds_3 := dk_seg dksX22_holds_2 24 rfl rfl
theorem dX22_holds_0 : decode cX22_holds 0 = .ok (.aload_n 0, 1) := dk_42 (dk_at dksX22_holds_0 0 rfl rfl)
theorem dX22_holds_1 : decode cX22_holds 1 = .ok (.getfield 7, 3) := dk_180 0 7 (dk_at dksX22_holds_0 1 rfl rfl)
theorem dX22_holds_4 : decode cX22_holds 4 = .ok (.aload_n 1, 1) := dk_43 (dk_at dksX22_holds_0 4 rfl rfl)
theorem dX22_holds_5 : decode cX22_holds 5 = .ok (.invokevirtual 20, 3) := dk_182 0 20 (dk_at dksX22_holds_0 5 rfl rfl)
theorem dX22_holds_8 : decode cX22_holds 8 = .ok (.lstore_n 2, 1) := dk_65 (dk_at dksX22_holds_0 8 rfl rfl)
theorem dX22_holds_9 : decode cX22_holds 9 = .ok (.aload_n 0, 1) := dk_42 (dk_at dksX22_holds_0 9 rfl rfl)
theorem dX22_holds_10 : decode cX22_holds 10 = .ok (.getfield 17, 3) := dk_180 0 17 (dk_at dksX22_holds_0 10 rfl rfl)
theorem dX22_holds_13 : decode cX22_holds 13 = .ok (.aload_n 1, 1) := dk_43 (dk_at dksX22_holds_0 13 rfl rfl)
theorem dX22_holds_14 : decode cX22_holds 14 = .ok (.invokevirtual 20, 3) := dk_182 0 20 (dk_at dksX22_holds_0 14 rfl rfl)
theorem dX22_holds_17 : decode cX22_holds 17 = .ok (.lstore 4, 2) := dk_55 4 (dk_at dksX22_holds_0 17 rfl rfl)
theorem dX22_holds_19 : decode cX22_holds 19 = .ok (.aload_n 0, 1) := dk_42 (dk_at dksX22_holds_0 19 rfl rfl)
theorem dX22_holds_20 : decode cX22_holds 20 = .ok (.getfield 13, 3) := dk_180 0 13 (dk_at dksX22_holds_0 20 rfl rfl)
theorem dX22_holds_23 : decode cX22_holds 23 = .ok (.bipush 60, 2) := dk_16 60 (dk_at dksX22_holds_1 0 rfl rfl)
theorem dX22_holds_25 : decode cX22_holds 25 = .ok (.if_icmp .ne 18, 3) := dk_160 0 18 (dk_at dksX22_holds_1 2 rfl rfl)
theorem dX22_holds_28 : decode cX22_holds 28 = .ok (.lload_n 2, 1) := dk_32 (dk_at dksX22_holds_1 5 rfl rfl)
theorem dX22_holds_29 : decode cX22_holds 29 = .ok (.lload 4, 2) := dk_22 4 (dk_at dksX22_holds_1 6 rfl rfl)
theorem dX22_holds_31 : decode cX22_holds 31 = .ok (.lcmp, 1) := dk_148 (dk_at dksX22_holds_1 8 rfl rfl)
theorem dX22_holds_32 : decode cX22_holds 32 = .ok (.ifCond .ge 7, 3) := dk_156 0 7 (dk_at dksX22_holds_1 9 rfl rfl)
theorem dX22_holds_35 : decode cX22_holds 35 = .ok (.iconst 1, 1) := dk_4 (dk_at dksX22_holds_1 12 rfl rfl)
theorem dX22_holds_36 : decode cX22_holds 36 = .ok (.goto 43, 3) := dk_167 0 43 (dk_at dksX22_holds_1 13 rfl rfl)
theorem dX22_holds_39 : decode cX22_holds 39 = .ok (.iconst 0, 1) := dk_3 (dk_at dksX22_holds_1 16 rfl rfl)
theorem dX22_holds_40 : decode cX22_holds 40 = .ok (.goto 39, 3) := dk_167 0 39 (dk_at dksX22_holds_1 17 rfl rfl)
theorem dX22_holds_43 : decode cX22_holds 43 = .ok (.aload_n 0, 1) := dk_42 (dk_at dksX22_holds_1 20 rfl rfl)
theorem dX22_holds_44 : decode cX22_holds 44 = .ok (.getfield 13, 3) := dk_180 0 13 (dk_at dksX22_holds_1 21 rfl rfl)
theorem dX22_holds_47 : decode cX22_holds 47 = .ok (.bipush 62, 2) := dk_16 62 (dk_at dksX22_holds_2 0 rfl rfl)
theorem dX22_holds_49 : decode cX22_holds 49 = .ok (.if_icmp .ne 18, 3) := dk_160 0 18 (dk_at dksX22_holds_2 2 rfl rfl)
theorem dX22_holds_52 : decode cX22_holds 52 = .ok (.lload_n 2, 1) := dk_32 (dk_at dksX22_holds_2 5 rfl rfl)
theorem dX22_holds_53 : decode cX22_holds 53 = .ok (.lload 4, 2) := dk_22 4 (dk_at dksX22_holds_2 6 rfl rfl)
theorem dX22_holds_55 : decode cX22_holds 55 = .ok (.lcmp, 1) := dk_148 (dk_at dksX22_holds_2 8 rfl rfl)
theorem dX22_holds_56 : decode cX22_holds 56 = .ok (.ifCond .le 7, 3) := dk_158 0 7 (dk_at dksX22_holds_2 9 rfl rfl)
theorem dX22_holds_59 : decode cX22_holds 59 = .ok (.iconst 1, 1) := dk_4 (dk_at dksX22_holds_2 12 rfl rfl)
theorem dX22_holds_60 : decode cX22_holds 60 = .ok (.goto 19, 3) := dk_167 0 19 (dk_at dksX22_holds_2 13 rfl rfl)
theorem dX22_holds_63 : decode cX22_holds 63 = .ok (.iconst 0, 1) := dk_3 (dk_at dksX22_holds_2 16 rfl rfl)
theorem dX22_holds_64 : decode cX22_holds 64 = .ok (.goto 15, 3) := dk_167 0 15 (dk_at dksX22_holds_2 17 rfl rfl)
theorem dX22_holds_67 : decode cX22_holds 67 = .ok (.lload_n 2, 1) := dk_32 (dk_at dksX22_holds_2 20 rfl rfl)
theorem dX22_holds_68 : decode cX22_holds 68 = .ok (.lload 4, 2) := dk_22 4 (dk_at dksX22_holds_2 21 rfl rfl)
theorem dX22_holds_70 : decode cX22_holds 70 = .ok (.lcmp, 1) := dk_148 (dk_at dksX22_holds_2 23 rfl rfl)
theorem dX22_holds_71 : decode cX22_holds 71 = .ok (.ifCond .ne 7, 3) := dk_154 0 7 (dk_at dksX22_holds_3 0 rfl rfl)
theorem dX22_holds_74 : decode cX22_holds 74 = .ok (.iconst 1, 1) := dk_4 (dk_at dksX22_holds_3 3 rfl rfl)
theorem dX22_holds_75 : decode cX22_holds 75 = .ok (.goto 4, 3) := dk_167 0 4 (dk_at dksX22_holds_3 4 rfl rfl)
theorem dX22_holds_78 : decode cX22_holds 78 = .ok (.iconst 0, 1) := dk_3 (dk_at dksX22_holds_3 7 rfl rfl)
theorem dX22_holds_79 : decode cX22_holds 79 = .ok (.ireturn, 1) := dk_172 (dk_at dksX22_holds_3 8 rfl rfl)
theorem q186 : (Jvm.Cond.initialized "VerbAtDusk$Than") ∈ lw_all := lw_g (lw_at lw_m1 40 rfl) rfl
theorem q967 : (Jvm.Cond.selects "VerbAtDusk$Than" ({ cls := "java/lang/Object", name := "getClass", desc := "()Ljava/lang/Class;" } : Jvm.MethodName) ({ cls := "java/lang/Object", name := "getClass", desc := "()Ljava/lang/Class;" } : Jvm.MethodName)) ∈ lw_all := lw_g (lw_at lw_m4 101 rfl) rfl
theorem q1263 : (Jvm.Cond.instantiable "VerbAtDusk$Than" (3 : Nat)) ∈ lw_all := lw_g (lw_at lw_m5 157 rfl) rfl
theorem q1265 : (Jvm.Cond.instanceMethod ({ cls := "VerbAtDusk$Than", name := "<init>", desc := "(LVerbAtDusk$Value;ILVerbAtDusk$Value;)V" } : Jvm.MethodName)) ∈ lw_all := lw_g (lw_at lw_m5 159 rfl) rfl
theorem q1266 : (Jvm.Cond.code ({ cls := "VerbAtDusk$Than", name := "<init>", desc := "(LVerbAtDusk$Value;ILVerbAtDusk$Value;)V" } : Jvm.MethodName) prog_20_method_1_code (4 : Nat) (Option.none : Option Jvm.ClassFile.FieldType)) ∈ lw_all := lw_g (lw_at lw_m5 160 rfl) rfl
theorem q1267 : (Jvm.Cond.methodLinkNest "VerbAtDusk$Than" (1 : Nat) ({ cls := "VerbAtDusk$Test", name := "<init>", desc := "()V" } : Jvm.MethodName) "VerbAtDusk") ∈ lw_tbl := lw_at lw_m5 161 rfl
theorem q1268 : (Jvm.Cond.fieldLink "VerbAtDusk$Than" (7 : Nat) "VerbAtDusk$Than" "a" "LVerbAtDusk$Value;") ∈ lw_all := lw_g (lw_at lw_m5 162 rfl) rfl
theorem q1269 : (Jvm.Cond.fieldLink "VerbAtDusk$Than" (17 : Nat) "VerbAtDusk$Than" "b" "LVerbAtDusk$Value;") ∈ lw_all := lw_g (lw_at lw_m5 163 rfl) rfl
theorem q1270 : (Jvm.Cond.fieldLink "VerbAtDusk$Than" (13 : Nat) "VerbAtDusk$Than" "sign" "I") ∈ lw_all := lw_g (lw_at lw_m5 164 rfl) rfl
theorem q1271 : (Jvm.Cond.laysFinal "VerbAtDusk$Than" "VerbAtDusk$Than" "a" "LVerbAtDusk$Value;") ∈ lw_all := lw_g (lw_at lw_m5 165 rfl) rfl
theorem q1272 : (Jvm.Cond.soleField "VerbAtDusk$Than" "a") ∈ lw_all := lw_g (lw_at lw_m5 166 rfl) rfl
theorem q1273 : (Jvm.Cond.laysFinal "VerbAtDusk$Than" "VerbAtDusk$Than" "b" "LVerbAtDusk$Value;") ∈ lw_all := lw_g (lw_at lw_m5 167 rfl) rfl
theorem q1274 : (Jvm.Cond.soleField "VerbAtDusk$Than" "b") ∈ lw_all := lw_g (lw_at lw_m5 168 rfl) rfl
theorem q1275 : (Jvm.Cond.laysFinal "VerbAtDusk$Than" "VerbAtDusk$Than" "sign" "I") ∈ lw_all := lw_g (lw_at lw_m5 169 rfl) rfl
theorem q1276 : (Jvm.Cond.soleField "VerbAtDusk$Than" "sign") ∈ lw_all := lw_g (lw_at lw_m5 170 rfl) rfl
theorem q1277 : (Jvm.Cond.superclass "VerbAtDusk$Than" "VerbAtDusk$Test") ∈ lw_all := lw_g (lw_at lw_m5 171 rfl) rfl
theorem q1387 : (Jvm.Cond.instanceMethod ({ cls := "VerbAtDusk$Than", name := "holds", desc := "(LVerbAtDusk$Moment;)Z" } : Jvm.MethodName)) ∈ lw_all := lw_g (lw_at lw_m6 41 rfl) rfl
theorem q1388 : (Jvm.Cond.code ({ cls := "VerbAtDusk$Than", name := "holds", desc := "(LVerbAtDusk$Moment;)Z" } : Jvm.MethodName) prog_20_method_2_code (6 : Nat) (Option.some Jvm.ClassFile.FieldType.boolean)) ∈ lw_all := lw_g (lw_at lw_m6 42 rfl) rfl
theorem q1389 : (Jvm.Cond.methodLink "VerbAtDusk$Than" (20 : Nat) ({ cls := "VerbAtDusk$Value", name := "at", desc := "(LVerbAtDusk$Moment;)J" } : Jvm.MethodName)) ∈ lw_all := lw_g (lw_at lw_m6 43 rfl) rfl
theorem q1454 : (Jvm.Cond.selects "VerbAtDusk$Than" ({ cls := "VerbAtDusk$Test", name := "holds", desc := "(LVerbAtDusk$Moment;)Z" } : Jvm.MethodName) ({ cls := "VerbAtDusk$Than", name := "holds", desc := "(LVerbAtDusk$Moment;)Z" } : Jvm.MethodName)) ∈ lw_all := lw_g (lw_at lw_m6 108 rfl) rfl
theorem q2635 : (Jvm.Cond.castable "VerbAtDusk$Than" "VerbAtDusk$Test") ∈ lw_tbl := lw_at lw_m11 89 rfl
theorem q2664 : (Jvm.Cond.castable "VerbAtDusk$Than" "java/lang/Object") ∈ lw_tbl := lw_at lw_m11 118 rfl
theorem in_X22 : ∀ w ∈ wsX220, w ∈ lw_all := lw_in wsX220 [1271, 1273, 1275] (by decide +kernel) (by decide +kernel)
/-! VerbAtDusk$Question -/
set_option maxRecDepth 100000
def RX23 : String := "VerbAtDusk$Question"
def TX23 : u_T := fun k => match k with
  | 0 => ("VerbAtDusk$Question", "what", "I", true)
  | 1 => ("VerbAtDusk$Question", "test", "LVerbAtDusk$Test;", true)
  | 2 => ("VerbAtDusk$Question", "sum", "LVerbAtDusk$Value;", true)
  | 3 => ("VerbAtDusk$Question", "found", "J", false)
  | _ => ("VerbAtDusk$Question", "has", "Z", false)
def tyX23 : Nat → FieldType := fun k => match k with
  | 0 => .int
  | 1 => .object "VerbAtDusk$Test"
  | 2 => .object "VerbAtDusk$Value"
  | 3 => .long
  | _ => .boolean
abbrev wsX230 : List Cond := u_ws RX23 TX23 5
theorem nmX23 : ∀ a, a < 5 → ∀ b, b < 5 → a ≠ b → (TX23 a).2.1 ≠ (TX23 b).2.1 := by decide +kernel
theorem tyX23_ok : ∀ k, k < 5 → parseFieldDescriptor (TX23 k).2.2.1 = some (tyX23 k) := by decide +kernel
abbrev cX23_init : ByteArray := prog_15_method_1_code
def yX23_init : MethodName := ⟨RX23, "<init>", "(ILVerbAtDusk$Test;LVerbAtDusk$Value;)V"⟩
def dkwX23_init_1 : List UInt8 := [181, 0, 25, 177]
abbrev dktX23_init_1 : List UInt8 := dkwX23_init_1 ++ []
def dkwX23_init_0 : List UInt8 := [42, 183, 0, 3, 42, 20, 0, 9, 181, 0, 11, 42, 27, 181, 0, 17, 42, 44, 181, 0, 21, 42, 45]
abbrev dktX23_init_0 : List UInt8 := dkwX23_init_0 ++ dktX23_init_1
theorem dksX23_init_0 : cX23_init.data.toList.drop 0 = dktX23_init_0 := by decide +kernel
theorem dksX23_init_1 : cX23_init.data.toList.drop 23 = dktX23_init_1 := dk_seg dksX23_init_0 23 rfl rfl
theorem dX23_init_0 : decode cX23_init 0 = .ok (.aload_n 0, 1) := dk_42 (dk_at dksX23_init_0 0 rfl rfl)
theorem dX23_init_1 : decode cX23_init 1 = .ok (.invokespecial 3, 3) := dk_183 0 3 (dk_at dksX23_init_0 1 rfl rfl)
theorem dX23_init_4 : decode cX23_init 4 = .ok (.aload_n 0, 1) := dk_42 (dk_at dksX23_init_0 4 rfl rfl)
theorem dX23_init_5 : decode cX23_init 5 = .ok (.ldc2_w 9, 3) := dk_20 0 9 (dk_at dksX23_init_0 5 rfl rfl)
theorem dX23_init_8 : decode cX23_init 8 = .ok (.putfield 11, 3) := dk_181 0 11 (dk_at dksX23_init_0 8 rfl rfl)
theorem dX23_init_11 : decode cX23_init 11 = .ok (.aload_n 0, 1) := dk_42 (dk_at dksX23_init_0 11 rfl rfl)
theorem dX23_init_12 : decode cX23_init 12 = .ok (.iload_n 1, 1) := dk_27 (dk_at dksX23_init_0 12 rfl rfl)
theorem dX23_init_13 : decode cX23_init 13 = .ok (.putfield 17, 3) := dk_181 0 17 (dk_at dksX23_init_0 13 rfl rfl)
theorem dX23_init_16 : decode cX23_init 16 = .ok (.aload_n 0, 1) := dk_42 (dk_at dksX23_init_0 16 rfl rfl)
theorem dX23_init_17 : decode cX23_init 17 = .ok (.aload_n 2, 1) := dk_44 (dk_at dksX23_init_0 17 rfl rfl)
theorem dX23_init_18 : decode cX23_init 18 = .ok (.putfield 21, 3) := dk_181 0 21 (dk_at dksX23_init_0 18 rfl rfl)
theorem dX23_init_21 : decode cX23_init 21 = .ok (.aload_n 0, 1) := dk_42 (dk_at dksX23_init_0 21 rfl rfl)
theorem dX23_init_22 : decode cX23_init 22 = .ok (.aload_n 3, 1) := dk_45 (dk_at dksX23_init_0 22 rfl rfl)
theorem dX23_init_23 : decode cX23_init 23 = .ok (.putfield 25, 3) := dk_181 0 25 (dk_at dksX23_init_1 0 rfl rfl)
theorem dX23_init_26 : decode cX23_init 26 = .ok (.return_, 1) := dk_177 (dk_at dksX23_init_1 3 rfl rfl)
abbrev cX23_meets : ByteArray := prog_15_method_2_code
def yX23_meets : MethodName := ⟨RX23, "meets", "(ILVerbAtDusk$Moment;)V"⟩
def dkwX23_meets_6 : List UInt8 := [181, 0, 11, 42, 4, 181, 0, 41, 177]
abbrev dktX23_meets_6 : List UInt8 := dkwX23_meets_6 ++ []
def dkwX23_meets_5 : List UInt8 := [7, 160, 0, 14, 42, 180, 0, 11, 33, 184, 0, 35, 167, 0, 11, 42, 180, 0, 11, 33, 184, 0, 51]
abbrev dktX23_meets_5 : List UInt8 := dkwX23_meets_5 ++ dktX23_meets_6
def dkwX23_meets_4 : List UInt8 := [167, 0, 47, 42, 180, 0, 17, 6, 160, 0, 12, 42, 180, 0, 11, 33, 97, 167, 0, 30, 42, 180, 0, 17]
abbrev dktX23_meets_4 : List UInt8 := dkwX23_meets_4 ++ dktX23_meets_5
def dkwX23_meets_3 : List UInt8 := [181, 0, 41, 177, 42, 180, 0, 25, 44, 182, 0, 45, 66, 42, 42, 180, 0, 41, 154, 0, 7, 33]
abbrev dktX23_meets_3 : List UInt8 := dkwX23_meets_3 ++ dktX23_meets_4
def dkwX23_meets_2 : List UInt8 := [154, 0, 17, 42, 180, 0, 41, 153, 0, 10, 42, 180, 0, 11, 167, 0, 5, 27, 133, 181, 0, 11, 42, 4]
abbrev dktX23_meets_2 : List UInt8 := dkwX23_meets_2 ++ dktX23_meets_3
def dkwX23_meets_1 : List UInt8 := [180, 0, 17, 5, 160, 0, 16, 9, 42, 180, 0, 11, 184, 0, 35, 10, 97, 167, 0, 26, 42, 180, 0, 17]
abbrev dktX23_meets_1 : List UInt8 := dkwX23_meets_1 ++ dktX23_meets_2
def dkwX23_meets_0 : List UInt8 := [42, 180, 0, 17, 6, 162, 0, 69, 42, 180, 0, 21, 44, 182, 0, 29, 154, 0, 4, 177, 42, 42]
abbrev dktX23_meets_0 : List UInt8 := dkwX23_meets_0 ++ dktX23_meets_1
theorem dksX23_meets_0 : cX23_meets.data.toList.drop 0 = dktX23_meets_0 := by decide +kernel
theorem dksX23_meets_1 : cX23_meets.data.toList.drop 22 = dktX23_meets_1 := dk_seg dksX23_meets_0 22 rfl rfl
theorem dksX23_meets_2 : cX23_meets.data.toList.drop 46 = dktX23_meets_2 := dk_seg dksX23_meets_1 24 rfl rfl
theorem dksX23_meets_3 : cX23_meets.data.toList.drop 70 = dktX23_meets_3 := dk_seg dksX23_meets_2 24 rfl rfl
theorem dksX23_meets_4 : cX23_meets.data.toList.drop 92 = dktX23_meets_4 := dk_seg dksX23_meets_3 22 rfl rfl
theorem dksX23_meets_5 : cX23_meets.data.toList.drop 116 = dktX23_meets_5 := dk_seg dksX23_meets_4 24 rfl rfl
theorem dksX23_meets_6 : cX23_meets.data.toList.drop 139 = dktX23_meets_6 := dk_seg dksX23_meets_5 23 rfl rfl
theorem dX23_meets_0 : decode cX23_meets 0 = .ok (.aload_n 0, 1) := dk_42 (dk_at dksX23_meets_0 0 rfl rfl)
theorem dX23_meets_1 : decode cX23_meets 1 = .ok (.getfield 17, 3) := dk_180 0 17 (dk_at dksX23_meets_0 1 rfl rfl)
theorem dX23_meets_4 : decode cX23_meets 4 = .ok (.iconst 3, 1) := dk_6 (dk_at dksX23_meets_0 4 rfl rfl)
theorem dX23_meets_5 : decode cX23_meets 5 = .ok (.if_icmp .ge 69, 3) := dk_162 0 69 (dk_at dksX23_meets_0 5 rfl rfl)
theorem dX23_meets_8 : decode cX23_meets 8 = .ok (.aload_n 0, 1) := dk_42 (dk_at dksX23_meets_0 8 rfl rfl)
theorem dX23_meets_9 : decode cX23_meets 9 = .ok (.getfield 21, 3) := dk_180 0 21 (dk_at dksX23_meets_0 9 rfl rfl)
theorem dX23_meets_12 : decode cX23_meets 12 = .ok (.aload_n 2, 1) := dk_44 (dk_at dksX23_meets_0 12 rfl rfl)
theorem dX23_meets_13 : decode cX23_meets 13 = .ok (.invokevirtual 29, 3) := dk_182 0 29 (dk_at dksX23_meets_0 13 rfl rfl)
theorem dX23_meets_16 : decode cX23_meets 16 = .ok (.ifCond .ne 4, 3) := dk_154 0 4 (dk_at dksX23_meets_0 16 rfl rfl)
theorem dX23_meets_19 : decode cX23_meets 19 = .ok (.return_, 1) := dk_177 (dk_at dksX23_meets_0 19 rfl rfl)
theorem dX23_meets_20 : decode cX23_meets 20 = .ok (.aload_n 0, 1) := dk_42 (dk_at dksX23_meets_0 20 rfl rfl)
theorem dX23_meets_21 : decode cX23_meets 21 = .ok (.aload_n 0, 1) := dk_42 (dk_at dksX23_meets_0 21 rfl rfl)
theorem dX23_meets_22 : decode cX23_meets 22 = .ok (.getfield 17, 3) := dk_180 0 17 (dk_at dksX23_meets_1 0 rfl rfl)
theorem dX23_meets_25 : decode cX23_meets 25 = .ok (.iconst 2, 1) := dk_5 (dk_at dksX23_meets_1 3 rfl rfl)
theorem dX23_meets_26 : decode cX23_meets 26 = .ok (.if_icmp .ne 16, 3) := dk_160 0 16 (dk_at dksX23_meets_1 4 rfl rfl)
theorem dX23_meets_29 : decode cX23_meets 29 = .ok (.lconst 0, 1) := dk_9 (dk_at dksX23_meets_1 7 rfl rfl)
theorem dX23_meets_30 : decode cX23_meets 30 = .ok (.aload_n 0, 1) := dk_42 (dk_at dksX23_meets_1 8 rfl rfl)
theorem dX23_meets_31 : decode cX23_meets 31 = .ok (.getfield 11, 3) := dk_180 0 11 (dk_at dksX23_meets_1 9 rfl rfl)
theorem dX23_meets_34 : decode cX23_meets 34 = .ok (.invokestatic 35, 3) := dk_184 0 35 (dk_at dksX23_meets_1 12 rfl rfl)
theorem dX23_meets_37 : decode cX23_meets 37 = .ok (.lconst 1, 1) := dk_10 (dk_at dksX23_meets_1 15 rfl rfl)
theorem dX23_meets_38 : decode cX23_meets 38 = .ok (.ladd, 1) := dk_97 (dk_at dksX23_meets_1 16 rfl rfl)
theorem dX23_meets_39 : decode cX23_meets 39 = .ok (.goto 26, 3) := dk_167 0 26 (dk_at dksX23_meets_1 17 rfl rfl)
theorem dX23_meets_42 : decode cX23_meets 42 = .ok (.aload_n 0, 1) := dk_42 (dk_at dksX23_meets_1 20 rfl rfl)
theorem dX23_meets_43 : decode cX23_meets 43 = .ok (.getfield 17, 3) := dk_180 0 17 (dk_at dksX23_meets_1 21 rfl rfl)
theorem dX23_meets_46 : decode cX23_meets 46 = .ok (.ifCond .ne 17, 3) := dk_154 0 17 (dk_at dksX23_meets_2 0 rfl rfl)
theorem dX23_meets_49 : decode cX23_meets 49 = .ok (.aload_n 0, 1) := dk_42 (dk_at dksX23_meets_2 3 rfl rfl)
theorem dX23_meets_50 : decode cX23_meets 50 = .ok (.getfield 41, 3) := dk_180 0 41 (dk_at dksX23_meets_2 4 rfl rfl)
theorem dX23_meets_53 : decode cX23_meets 53 = .ok (.ifCond .eq 10, 3) := dk_153 0 10 (dk_at dksX23_meets_2 7 rfl rfl)
theorem dX23_meets_56 : decode cX23_meets 56 = .ok (.aload_n 0, 1) := dk_42 (dk_at dksX23_meets_2 10 rfl rfl)
theorem dX23_meets_57 : decode cX23_meets 57 = .ok (.getfield 11, 3) := dk_180 0 11 (dk_at dksX23_meets_2 11 rfl rfl)
theorem dX23_meets_60 : decode cX23_meets 60 = .ok (.goto 5, 3) := dk_167 0 5 (dk_at dksX23_meets_2 14 rfl rfl)
theorem dX23_meets_63 : decode cX23_meets 63 = .ok (.iload_n 1, 1) := dk_27 (dk_at dksX23_meets_2 17 rfl rfl)
theorem dX23_meets_64 : decode cX23_meets 64 = .ok (.i2l, 1) := dk_133 (dk_at dksX23_meets_2 18 rfl rfl)
theorem dX23_meets_65 : decode cX23_meets 65 = .ok (.putfield 11, 3) := dk_181 0 11 (dk_at dksX23_meets_2 19 rfl rfl)
theorem dX23_meets_68 : decode cX23_meets 68 = .ok (.aload_n 0, 1) := dk_42 (dk_at dksX23_meets_2 22 rfl rfl)
theorem dX23_meets_69 : decode cX23_meets 69 = .ok (.iconst 1, 1) := dk_4 (dk_at dksX23_meets_2 23 rfl rfl)
theorem dX23_meets_70 : decode cX23_meets 70 = .ok (.putfield 41, 3) := dk_181 0 41 (dk_at dksX23_meets_3 0 rfl rfl)
theorem dX23_meets_73 : decode cX23_meets 73 = .ok (.return_, 1) := dk_177 (dk_at dksX23_meets_3 3 rfl rfl)
theorem dX23_meets_74 : decode cX23_meets 74 = .ok (.aload_n 0, 1) := dk_42 (dk_at dksX23_meets_3 4 rfl rfl)
theorem dX23_meets_75 : decode cX23_meets 75 = .ok (.getfield 25, 3) := dk_180 0 25 (dk_at dksX23_meets_3 5 rfl rfl)
theorem dX23_meets_78 : decode cX23_meets 78 = .ok (.aload_n 2, 1) := dk_44 (dk_at dksX23_meets_3 8 rfl rfl)
theorem dX23_meets_79 : decode cX23_meets 79 = .ok (.invokevirtual 45, 3) := dk_182 0 45 (dk_at dksX23_meets_3 9 rfl rfl)
theorem dX23_meets_82 : decode cX23_meets 82 = .ok (.lstore_n 3, 1) := dk_66 (dk_at dksX23_meets_3 12 rfl rfl)
theorem dX23_meets_83 : decode cX23_meets 83 = .ok (.aload_n 0, 1) := dk_42 (dk_at dksX23_meets_3 13 rfl rfl)
theorem dX23_meets_84 : decode cX23_meets 84 = .ok (.aload_n 0, 1) := dk_42 (dk_at dksX23_meets_3 14 rfl rfl)
theorem dX23_meets_85 : decode cX23_meets 85 = .ok (.getfield 41, 3) := dk_180 0 41 (dk_at dksX23_meets_3 15 rfl rfl)
theorem dX23_meets_88 : decode cX23_meets 88 = .ok (.ifCond .ne 7, 3) := dk_154 0 7 (dk_at dksX23_meets_3 18 rfl rfl)
theorem dX23_meets_91 : decode cX23_meets 91 = .ok (.lload_n 3, 1) := dk_33 (dk_at dksX23_meets_3 21 rfl rfl)
theorem dX23_meets_92 : decode cX23_meets 92 = .ok (.goto 47, 3) := dk_167 0 47 (dk_at dksX23_meets_4 0 rfl rfl)
theorem dX23_meets_95 : decode cX23_meets 95 = .ok (.aload_n 0, 1) := dk_42 (dk_at dksX23_meets_4 3 rfl rfl)
theorem dX23_meets_96 : decode cX23_meets 96 = .ok (.getfield 17, 3) := dk_180 0 17 (dk_at dksX23_meets_4 4 rfl rfl)
theorem dX23_meets_99 : decode cX23_meets 99 = .ok (.iconst 3, 1) := dk_6 (dk_at dksX23_meets_4 7 rfl rfl)
theorem dX23_meets_100 : decode cX23_meets 100 = .ok (.if_icmp .ne 12, 3) := dk_160 0 12 (dk_at dksX23_meets_4 8 rfl rfl)
theorem dX23_meets_103 : decode cX23_meets 103 = .ok (.aload_n 0, 1) := dk_42 (dk_at dksX23_meets_4 11 rfl rfl)
theorem dX23_meets_104 : decode cX23_meets 104 = .ok (.getfield 11, 3) := dk_180 0 11 (dk_at dksX23_meets_4 12 rfl rfl)
theorem dX23_meets_107 : decode cX23_meets 107 = .ok (.lload_n 3, 1) := dk_33 (dk_at dksX23_meets_4 15 rfl rfl)
theorem dX23_meets_108 : decode cX23_meets 108 = .ok (.ladd, 1) := dk_97 (dk_at dksX23_meets_4 16 rfl rfl)
theorem dX23_meets_109 : decode cX23_meets 109 = .ok (.goto 30, 3) := dk_167 0 30 (dk_at dksX23_meets_4 17 rfl rfl)
theorem dX23_meets_112 : decode cX23_meets 112 = .ok (.aload_n 0, 1) := dk_42 (dk_at dksX23_meets_4 20 rfl rfl)
theorem dX23_meets_113 : decode cX23_meets 113 = .ok (.getfield 17, 3) := dk_180 0 17 (dk_at dksX23_meets_4 21 rfl rfl)
theorem dX23_meets_116 : decode cX23_meets 116 = .ok (.iconst 4, 1) := dk_7 (dk_at dksX23_meets_5 0 rfl rfl)
theorem dX23_meets_117 : decode cX23_meets 117 = .ok (.if_icmp .ne 14, 3) := dk_160 0 14 (dk_at dksX23_meets_5 1 rfl rfl)
theorem dX23_meets_120 : decode cX23_meets 120 = .ok (.aload_n 0, 1) := dk_42 (dk_at dksX23_meets_5 4 rfl rfl)
theorem dX23_meets_121 : decode cX23_meets 121 = .ok (.getfield 11, 3) := dk_180 0 11 (dk_at dksX23_meets_5 5 rfl rfl)
theorem dX23_meets_124 : decode cX23_meets 124 = .ok (.lload_n 3, 1) := dk_33 (dk_at dksX23_meets_5 8 rfl rfl)
theorem dX23_meets_125 : decode cX23_meets 125 = .ok (.invokestatic 35, 3) := dk_184 0 35 (dk_at dksX23_meets_5 9 rfl rfl)
theorem dX23_meets_128 : decode cX23_meets 128 = .ok (.goto 11, 3) := dk_167 0 11 (dk_at dksX23_meets_5 12 rfl rfl)
theorem dX23_meets_131 : decode cX23_meets 131 = .ok (.aload_n 0, 1) := dk_42 (dk_at dksX23_meets_5 15 rfl rfl)
theorem dX23_meets_132 : decode cX23_meets 132 = .ok (.getfield 11, 3) := dk_180 0 11 (dk_at dksX23_meets_5 16 rfl rfl)
theorem dX23_meets_135 : decode cX23_meets 135 = .ok (.lload_n 3, 1) := dk_33 (dk_at dksX23_meets_5 19 rfl rfl)
theorem dX23_meets_136 : decode cX23_meets 136 = .ok (.invokestatic 51, 3) := dk_184 0 51 (dk_at dksX23_meets_5 20 rfl rfl)
theorem dX23_meets_139 : decode cX23_meets 139 = .ok (.putfield 11, 3) := dk_181 0 11 (dk_at dksX23_meets_6 0 rfl rfl)
theorem dX23_meets_142 : decode cX23_meets 142 = .ok (.aload_n 0, 1) := dk_42 (dk_at dksX23_meets_6 3 rfl rfl)
theorem dX23_meets_143 : decode cX23_meets 143 = .ok (.iconst 1, 1) := dk_4 (dk_at dksX23_meets_6 4 rfl rfl)
theorem dX23_meets_144 : decode cX23_meets 144 = .ok (.putfield 41, 3) := dk_181 0 41 (dk_at dksX23_meets_6 5 rfl rfl)
theorem dX23_meets_147 : decode cX23_meets 147 = .ok (.return_, 1) := dk_177 (dk_at dksX23_meets_6 8 rfl rfl)
abbrev cX23_answer : ByteArray := prog_15_method_3_code
def yX23_answer : MethodName := ⟨RX23, "answer", "()J"⟩
def dkwX23_answer_0 : List UInt8 := [42, 180, 0, 41, 154, 0, 11, 42, 180, 0, 17, 5, 162, 0, 10, 42, 180, 0, 11, 167, 0, 4, 9, 173]
abbrev dktX23_answer_0 : List UInt8 := dkwX23_answer_0 ++ []
theorem dksX23_answer_0 : cX23_answer.data.toList.drop 0 = dktX23_answer_0 := by decide +kernel
theorem dX23_answer_0 : decode cX23_answer 0 = .ok (.aload_n 0, 1) := dk_42 (dk_at dksX23_answer_0 0 rfl rfl)
theorem dX23_answer_1 : decode cX23_answer 1 = .ok (.getfield 41, 3) := dk_180 0 41 (dk_at dksX23_answer_0 1 rfl rfl)
theorem dX23_answer_4 : decode cX23_answer 4 = .ok (.ifCond .ne 11, 3) := dk_154 0 11 (dk_at dksX23_answer_0 4 rfl rfl)
theorem dX23_answer_7 : decode cX23_answer 7 = .ok (.aload_n 0, 1) := dk_42 (dk_at dksX23_answer_0 7 rfl rfl)
theorem dX23_answer_8 : decode cX23_answer 8 = .ok (.getfield 17, 3) := dk_180 0 17 (dk_at dksX23_answer_0 8 rfl rfl)
theorem dX23_answer_11 : decode cX23_answer 11 = .ok (.iconst 2, 1) := dk_5 (dk_at dksX23_answer_0 11 rfl rfl)
theorem dX23_answer_12 : decode cX23_answer 12 = .ok (.if_icmp .ge 10, 3) := dk_162 0 10 (dk_at dksX23_answer_0 12 rfl rfl)
theorem dX23_answer_15 : decode cX23_answer 15 = .ok (.aload_n 0, 1) := dk_42 (dk_at dksX23_answer_0 15 rfl rfl)
theorem dX23_answer_16 : decode cX23_answer 16 = .ok (.getfield 11, 3) := dk_180 0 11 (dk_at dksX23_answer_0 16 rfl rfl)
theorem dX23_answer_19 : decode cX23_answer 19 = .ok (.goto 4, 3) := dk_167 0 4 (dk_at dksX23_answer_0 19 rfl rfl)
theorem dX23_answer_22 : decode cX23_answer 22 = .ok (.lconst 0, 1) := dk_9 (dk_at dksX23_answer_0 22 rfl rfl)
theorem dX23_answer_23 : decode cX23_answer 23 = .ok (.lreturn, 1) := dk_173 (dk_at dksX23_answer_0 23 rfl rfl)
theorem q188 : (Jvm.Cond.initialized "VerbAtDusk$Question") ∈ lw_all := lw_g (lw_at lw_m1 42 rfl) rfl
theorem q963 : (Jvm.Cond.selects "VerbAtDusk$Question" ({ cls := "java/lang/Object", name := "getClass", desc := "()Ljava/lang/Class;" } : Jvm.MethodName) ({ cls := "java/lang/Object", name := "getClass", desc := "()Ljava/lang/Class;" } : Jvm.MethodName)) ∈ lw_all := lw_g (lw_at lw_m4 97 rfl) rfl
theorem q1681 : (Jvm.Cond.instantiable "VerbAtDusk$Question" (5 : Nat)) ∈ lw_all := lw_g (lw_at lw_m7 95 rfl) rfl
theorem q1683 : (Jvm.Cond.instanceMethod ({ cls := "VerbAtDusk$Question", name := "<init>", desc := "(ILVerbAtDusk$Test;LVerbAtDusk$Value;)V" } : Jvm.MethodName)) ∈ lw_all := lw_g (lw_at lw_m7 97 rfl) rfl
theorem q1684 : (Jvm.Cond.code ({ cls := "VerbAtDusk$Question", name := "<init>", desc := "(ILVerbAtDusk$Test;LVerbAtDusk$Value;)V" } : Jvm.MethodName) prog_15_method_1_code (4 : Nat) (Option.none : Option Jvm.ClassFile.FieldType)) ∈ lw_all := lw_g (lw_at lw_m7 98 rfl) rfl
theorem q1685 : (Jvm.Cond.methodLink "VerbAtDusk$Question" (3 : Nat) ({ cls := "java/lang/Object", name := "<init>", desc := "()V" } : Jvm.MethodName)) ∈ lw_all := lw_g (lw_at lw_m7 99 rfl) rfl
theorem q1686 : (Jvm.Cond.constantLong "VerbAtDusk$Question" (9 : Nat) (-1 : Int64)) ∈ lw_all := lw_g (lw_at lw_m7 100 rfl) rfl
theorem q1687 : (Jvm.Cond.fieldLink "VerbAtDusk$Question" (17 : Nat) "VerbAtDusk$Question" "what" "I") ∈ lw_all := lw_g (lw_at lw_m7 101 rfl) rfl
theorem q1688 : (Jvm.Cond.fieldLink "VerbAtDusk$Question" (21 : Nat) "VerbAtDusk$Question" "test" "LVerbAtDusk$Test;") ∈ lw_all := lw_g (lw_at lw_m7 102 rfl) rfl
theorem q1689 : (Jvm.Cond.fieldLink "VerbAtDusk$Question" (25 : Nat) "VerbAtDusk$Question" "sum" "LVerbAtDusk$Value;") ∈ lw_all := lw_g (lw_at lw_m7 103 rfl) rfl
theorem q1690 : (Jvm.Cond.fieldLink "VerbAtDusk$Question" (11 : Nat) "VerbAtDusk$Question" "found" "J") ∈ lw_all := lw_g (lw_at lw_m7 104 rfl) rfl
theorem q1691 : (Jvm.Cond.fieldLink "VerbAtDusk$Question" (41 : Nat) "VerbAtDusk$Question" "has" "Z") ∈ lw_all := lw_g (lw_at lw_m7 105 rfl) rfl
theorem q1692 : (Jvm.Cond.laysFinal "VerbAtDusk$Question" "VerbAtDusk$Question" "what" "I") ∈ lw_all := lw_g (lw_at lw_m7 106 rfl) rfl
theorem q1693 : (Jvm.Cond.soleField "VerbAtDusk$Question" "what") ∈ lw_all := lw_g (lw_at lw_m7 107 rfl) rfl
theorem q1694 : (Jvm.Cond.laysFinal "VerbAtDusk$Question" "VerbAtDusk$Question" "test" "LVerbAtDusk$Test;") ∈ lw_all := lw_g (lw_at lw_m7 108 rfl) rfl
theorem q1695 : (Jvm.Cond.soleField "VerbAtDusk$Question" "test") ∈ lw_all := lw_g (lw_at lw_m7 109 rfl) rfl
theorem q1696 : (Jvm.Cond.laysFinal "VerbAtDusk$Question" "VerbAtDusk$Question" "sum" "LVerbAtDusk$Value;") ∈ lw_all := lw_g (lw_at lw_m7 110 rfl) rfl
theorem q1697 : (Jvm.Cond.soleField "VerbAtDusk$Question" "sum") ∈ lw_all := lw_g (lw_at lw_m7 111 rfl) rfl
theorem q1698 : (Jvm.Cond.lays "VerbAtDusk$Question" "VerbAtDusk$Question" "found" "J") ∈ lw_all := lw_g (lw_at lw_m7 112 rfl) rfl
theorem q1699 : (Jvm.Cond.soleField "VerbAtDusk$Question" "found") ∈ lw_all := lw_g (lw_at lw_m7 113 rfl) rfl
theorem q1700 : (Jvm.Cond.lays "VerbAtDusk$Question" "VerbAtDusk$Question" "has" "Z") ∈ lw_all := lw_g (lw_at lw_m7 114 rfl) rfl
theorem q1701 : (Jvm.Cond.soleField "VerbAtDusk$Question" "has") ∈ lw_all := lw_g (lw_at lw_m7 115 rfl) rfl
theorem q1702 : (Jvm.Cond.superclass "VerbAtDusk$Question" "java/lang/Object") ∈ lw_all := lw_g (lw_at lw_m7 116 rfl) rfl
theorem q1704 : (Jvm.Cond.instanceMethod ({ cls := "VerbAtDusk$Question", name := "meets", desc := "(ILVerbAtDusk$Moment;)V" } : Jvm.MethodName)) ∈ lw_all := lw_g (lw_at lw_m7 118 rfl) rfl
theorem q1705 : (Jvm.Cond.selects "VerbAtDusk$Question" ({ cls := "VerbAtDusk$Question", name := "meets", desc := "(ILVerbAtDusk$Moment;)V" } : Jvm.MethodName) ({ cls := "VerbAtDusk$Question", name := "meets", desc := "(ILVerbAtDusk$Moment;)V" } : Jvm.MethodName)) ∈ lw_all := lw_g (lw_at lw_m7 119 rfl) rfl
theorem q1706 : (Jvm.Cond.code ({ cls := "VerbAtDusk$Question", name := "meets", desc := "(ILVerbAtDusk$Moment;)V" } : Jvm.MethodName) prog_15_method_2_code (5 : Nat) (Option.none : Option Jvm.ClassFile.FieldType)) ∈ lw_all := lw_g (lw_at lw_m7 120 rfl) rfl
theorem q1707 : (Jvm.Cond.methodLink "VerbAtDusk$Question" (29 : Nat) ({ cls := "VerbAtDusk$Test", name := "holds", desc := "(LVerbAtDusk$Moment;)Z" } : Jvm.MethodName)) ∈ lw_all := lw_g (lw_at lw_m7 121 rfl) rfl
theorem q1708 : (Jvm.Cond.methodLink "VerbAtDusk$Question" (35 : Nat) ({ cls := "java/lang/Math", name := "max", desc := "(JJ)J" } : Jvm.MethodName)) ∈ lw_all := lw_g (lw_at lw_m7 122 rfl) rfl
theorem q1709 : (Jvm.Cond.methodLink "VerbAtDusk$Question" (45 : Nat) ({ cls := "VerbAtDusk$Value", name := "at", desc := "(LVerbAtDusk$Moment;)J" } : Jvm.MethodName)) ∈ lw_all := lw_g (lw_at lw_m7 123 rfl) rfl
theorem q1710 : (Jvm.Cond.methodLink "VerbAtDusk$Question" (51 : Nat) ({ cls := "java/lang/Math", name := "min", desc := "(JJ)J" } : Jvm.MethodName)) ∈ lw_all := lw_g (lw_at lw_m7 124 rfl) rfl
theorem q1712 : (Jvm.Cond.instanceMethod ({ cls := "VerbAtDusk$Question", name := "answer", desc := "()J" } : Jvm.MethodName)) ∈ lw_all := lw_g (lw_at lw_m7 126 rfl) rfl
theorem q1713 : (Jvm.Cond.selects "VerbAtDusk$Question" ({ cls := "VerbAtDusk$Question", name := "answer", desc := "()J" } : Jvm.MethodName) ({ cls := "VerbAtDusk$Question", name := "answer", desc := "()J" } : Jvm.MethodName)) ∈ lw_all := lw_g (lw_at lw_m7 127 rfl) rfl
theorem q1714 : (Jvm.Cond.code ({ cls := "VerbAtDusk$Question", name := "answer", desc := "()J" } : Jvm.MethodName) prog_15_method_3_code (1 : Nat) (Option.some Jvm.ClassFile.FieldType.long)) ∈ lw_all := lw_g (lw_at lw_m7 128 rfl) rfl
theorem q2665 : (Jvm.Cond.castable "VerbAtDusk$Question" "java/lang/Object") ∈ lw_tbl := lw_at lw_m11 119 rfl
theorem in_X23 : ∀ w ∈ wsX230, w ∈ lw_all := lw_in wsX230 [1692, 1694, 1696, 1698, 1700] (by decide +kernel) (by decide +kernel)
