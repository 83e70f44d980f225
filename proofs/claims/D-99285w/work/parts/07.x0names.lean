/-! VerbAtDusk -/
set_option maxRecDepth 100000
def RX0 : String := "VerbAtDusk"
def TX0 : u_T := fun k => match k with
  | 0 => ("VerbAtDusk", "country", "LVerbAtDusk$Country;", false)
  | 1 => ("VerbAtDusk", "tape", "[B", true)
  | 2 => ("VerbAtDusk", "taped", "I", false)
  | 3 => ("VerbAtDusk", "faultKind", "I", false)
  | 4 => ("VerbAtDusk", "faultPlace", "I", false)
  | 5 => ("VerbAtDusk", "reader", "LVerbAtDusk$Reader;", true)
  | 6 => ("VerbAtDusk", "moment", "LVerbAtDusk$Moment;", true)
  | 7 => ("VerbAtDusk", "asked", "LVerbAtDusk$Moment;", true)
  | 8 => ("VerbAtDusk", "refused", "[I", true)
  | 9 => ("VerbAtDusk", "walk", "LVerbAtDusk$Walk;", true)
  | 10 => ("VerbAtDusk", "giving", "LVerbAtDusk$Giving;", true)
  | 11 => ("VerbAtDusk", "now", "LVerbAtDusk$State;", true)
  | 12 => ("VerbAtDusk", "tried", "LVerbAtDusk$State;", true)
  | 13 => ("VerbAtDusk", "rowDay", "[I", true)
  | 14 => ("VerbAtDusk", "rowWho", "[I", true)
  | 15 => ("VerbAtDusk", "rowVerb", "[I", true)
  | 16 => ("VerbAtDusk", "rows", "I", false)
  | 17 => ("VerbAtDusk", "getsBy", "[[I", true)
  | 18 => ("VerbAtDusk", "kept", "[LVerbAtDusk$State;", true)
  | 19 => ("VerbAtDusk", "undos", "I", false)
  | 20 => ("VerbAtDusk", "seeds", "J", false)
  | 21 => ("VerbAtDusk", "askedSaying", "I", false)
  | 22 => ("VerbAtDusk", "out", "[B", true)
  | _ => ("VerbAtDusk", "outs", "I", false)
def tyX0 : Nat → FieldType := fun k => match k with
  | 0 => .object "VerbAtDusk$Country"
  | 1 => .array .byte
  | 2 => .int
  | 3 => .int
  | 4 => .int
  | 5 => .object "VerbAtDusk$Reader"
  | 6 => .object "VerbAtDusk$Moment"
  | 7 => .object "VerbAtDusk$Moment"
  | 8 => .array .int
  | 9 => .object "VerbAtDusk$Walk"
  | 10 => .object "VerbAtDusk$Giving"
  | 11 => .object "VerbAtDusk$State"
  | 12 => .object "VerbAtDusk$State"
  | 13 => .array .int
  | 14 => .array .int
  | 15 => .array .int
  | 16 => .int
  | 17 => .array (.array .int)
  | 18 => .array (.object "VerbAtDusk$State")
  | 19 => .int
  | 20 => .long
  | 21 => .int
  | 22 => .array .byte
  | _ => .int
abbrev wsX00 : List Cond := u_ws RX0 TX0 24
set_option maxRecDepth 100000 in
theorem nmX0 : ∀ a, a < 24 → ∀ b, b < 24 → a ≠ b → (TX0 a).2.1 ≠ (TX0 b).2.1 := by decide +kernel
set_option maxRecDepth 100000 in
theorem tyX0_ok : ∀ k, k < 24 → parseFieldDescriptor (TX0 k).2.2.1 = some (tyX0 k) := by decide +kernel
abbrev cX0_init : ByteArray := prog_1_method_7_code
def yX0_init : MethodName := ⟨RX0, "<init>", "()V"⟩
def dkwX0_init_8 : List UInt8 := [132, 1, 1, 167, 255, 233, 42, 10, 181, 0, 108, 42, 16, 70, 188, 8, 181, 0, 112, 177]
abbrev dktX0_init_8 : List UInt8 := dkwX0_init_8 ++ []
def dkwX0_init_7 : List UInt8 := [3, 60, 27, 16, 20, 162, 0, 23, 42, 180, 0, 104, 27, 187, 0, 80, 89, 42, 183, 0, 82, 83]
abbrev dktX0_init_7 : List UInt8 := dkwX0_init_7 ++ dktX0_init_8
def dkwX0_init_6 : List UInt8 := [181, 0, 96, 42, 16, 10, 16, 21, 197, 0, 99, 2, 181, 0, 101, 42, 16, 20, 189, 0, 80, 181, 0, 104]
abbrev dktX0_init_6 : List UInt8 := dkwX0_init_6 ++ dktX0_init_7
def dkwX0_init_5 : List UInt8 := [181, 0, 87, 42, 16, 16, 188, 10, 181, 0, 90, 42, 16, 16, 188, 10, 181, 0, 93, 42, 16, 16, 188, 10]
abbrev dktX0_init_5 : List UInt8 := dkwX0_init_5 ++ dktX0_init_6
def dkwX0_init_4 : List UInt8 := [181, 0, 76, 42, 187, 0, 80, 89, 42, 183, 0, 82, 181, 0, 83, 42, 187, 0, 80, 89, 42, 183, 0, 82]
abbrev dktX0_init_4 : List UInt8 := dkwX0_init_4 ++ dktX0_init_5
def dkwX0_init_3 : List UInt8 := [181, 0, 62, 42, 187, 0, 66, 89, 42, 183, 0, 68, 181, 0, 69, 42, 187, 0, 73, 89, 42, 183, 0, 75]
abbrev dktX0_init_3 : List UInt8 := dkwX0_init_3 ++ dktX0_init_4
def dkwX0_init_2 : List UInt8 := [183, 0, 54, 181, 0, 55, 42, 187, 0, 52, 89, 183, 0, 54, 181, 0, 59, 42, 16, 6, 188, 10]
abbrev dktX0_init_2 : List UInt8 := dkwX0_init_2 ++ dktX0_init_3
def dkwX0_init_1 : List UInt8 := [42, 2, 181, 0, 39, 42, 187, 0, 43, 89, 42, 183, 0, 45, 181, 0, 48, 42, 187, 0, 52, 89]
abbrev dktX0_init_1 : List UInt8 := dkwX0_init_1 ++ dktX0_init_2
def dkwX0_init_0 : List UInt8 := [42, 183, 0, 22, 42, 187, 0, 28, 89, 183, 0, 30, 181, 0, 31, 42, 17, 6, 64, 188, 8, 181, 0, 35]
abbrev dktX0_init_0 : List UInt8 := dkwX0_init_0 ++ dktX0_init_1
theorem dksX0_init_0 : cX0_init.data.toList.drop 0 = dktX0_init_0 := by decide +kernel
theorem dksX0_init_1 : cX0_init.data.toList.drop 24 = dktX0_init_1 := dk_seg dksX0_init_0 24 rfl rfl
theorem dksX0_init_2 : cX0_init.data.toList.drop 46 = dktX0_init_2 := dk_seg dksX0_init_1 22 rfl rfl
theorem dksX0_init_3 : cX0_init.data.toList.drop 68 = dktX0_init_3 := dk_seg dksX0_init_2 22 rfl rfl
theorem dksX0_init_4 : cX0_init.data.toList.drop 92 = dktX0_init_4 := dk_seg dksX0_init_3 24 rfl rfl
theorem dksX0_init_5 : cX0_init.data.toList.drop 116 = dktX0_init_5 := dk_seg dksX0_init_4 24 rfl rfl
theorem dksX0_init_6 : cX0_init.data.toList.drop 140 = dktX0_init_6 := dk_seg dksX0_init_5 24 rfl rfl
theorem dksX0_init_7 : cX0_init.data.toList.drop 164 = dktX0_init_7 := dk_seg dksX0_init_6 24 rfl rfl
theorem dksX0_init_8 : cX0_init.data.toList.drop 186 = dktX0_init_8 := dk_seg dksX0_init_7 22 rfl rfl
theorem dX0_init_0 : decode cX0_init 0 = .ok (.aload_n 0, 1) := dk_42 (dk_at dksX0_init_0 0 rfl rfl)
theorem dX0_init_1 : decode cX0_init 1 = .ok (.invokespecial 22, 3) := dk_183 0 22 (dk_at dksX0_init_0 1 rfl rfl)
theorem dX0_init_4 : decode cX0_init 4 = .ok (.aload_n 0, 1) := dk_42 (dk_at dksX0_init_0 4 rfl rfl)
theorem dX0_init_5 : decode cX0_init 5 = .ok (.new 28, 3) := dk_187 0 28 (dk_at dksX0_init_0 5 rfl rfl)
theorem dX0_init_8 : decode cX0_init 8 = .ok (.dup, 1) := dk_89 (dk_at dksX0_init_0 8 rfl rfl)
theorem dX0_init_9 : decode cX0_init 9 = .ok (.invokespecial 30, 3) := dk_183 0 30 (dk_at dksX0_init_0 9 rfl rfl)
theorem dX0_init_12 : decode cX0_init 12 = .ok (.putfield 31, 3) := dk_181 0 31 (dk_at dksX0_init_0 12 rfl rfl)
theorem dX0_init_15 : decode cX0_init 15 = .ok (.aload_n 0, 1) := dk_42 (dk_at dksX0_init_0 15 rfl rfl)
theorem dX0_init_16 : decode cX0_init 16 = .ok (.sipush 1600, 3) := dk_17 6 64 (dk_at dksX0_init_0 16 rfl rfl)
theorem dX0_init_19 : decode cX0_init 19 = .ok (.newarray .byte, 2) := dk_188_8 (dk_at dksX0_init_0 19 rfl rfl)
theorem dX0_init_21 : decode cX0_init 21 = .ok (.putfield 35, 3) := dk_181 0 35 (dk_at dksX0_init_0 21 rfl rfl)
theorem dX0_init_24 : decode cX0_init 24 = .ok (.aload_n 0, 1) := dk_42 (dk_at dksX0_init_1 0 rfl rfl)
theorem dX0_init_25 : decode cX0_init 25 = .ok (.iconst (-1), 1) := dk_2 (dk_at dksX0_init_1 1 rfl rfl)
theorem dX0_init_26 : decode cX0_init 26 = .ok (.putfield 39, 3) := dk_181 0 39 (dk_at dksX0_init_1 2 rfl rfl)
theorem dX0_init_29 : decode cX0_init 29 = .ok (.aload_n 0, 1) := dk_42 (dk_at dksX0_init_1 5 rfl rfl)
theorem dX0_init_30 : decode cX0_init 30 = .ok (.new 43, 3) := dk_187 0 43 (dk_at dksX0_init_1 6 rfl rfl)
theorem dX0_init_33 : decode cX0_init 33 = .ok (.dup, 1) := dk_89 (dk_at dksX0_init_1 9 rfl rfl)
theorem dX0_init_34 : decode cX0_init 34 = .ok (.aload_n 0, 1) := dk_42 (dk_at dksX0_init_1 10 rfl rfl)
theorem dX0_init_35 : decode cX0_init 35 = .ok (.invokespecial 45, 3) := dk_183 0 45 (dk_at dksX0_init_1 11 rfl rfl)
theorem dX0_init_38 : decode cX0_init 38 = .ok (.putfield 48, 3) := dk_181 0 48 (dk_at dksX0_init_1 14 rfl rfl)
theorem dX0_init_41 : decode cX0_init 41 = .ok (.aload_n 0, 1) := dk_42 (dk_at dksX0_init_1 17 rfl rfl)
theorem dX0_init_42 : decode cX0_init 42 = .ok (.new 52, 3) := dk_187 0 52 (dk_at dksX0_init_1 18 rfl rfl)
theorem dX0_init_45 : decode cX0_init 45 = .ok (.dup, 1) := dk_89 (dk_at dksX0_init_1 21 rfl rfl)
theorem dX0_init_46 : decode cX0_init 46 = .ok (.invokespecial 54, 3) := dk_183 0 54 (dk_at dksX0_init_2 0 rfl rfl)
theorem dX0_init_49 : decode cX0_init 49 = .ok (.putfield 55, 3) := dk_181 0 55 (dk_at dksX0_init_2 3 rfl rfl)
theorem dX0_init_52 : decode cX0_init 52 = .ok (.aload_n 0, 1) := dk_42 (dk_at dksX0_init_2 6 rfl rfl)
theorem dX0_init_53 : decode cX0_init 53 = .ok (.new 52, 3) := dk_187 0 52 (dk_at dksX0_init_2 7 rfl rfl)
theorem dX0_init_56 : decode cX0_init 56 = .ok (.dup, 1) := dk_89 (dk_at dksX0_init_2 10 rfl rfl)
theorem dX0_init_57 : decode cX0_init 57 = .ok (.invokespecial 54, 3) := dk_183 0 54 (dk_at dksX0_init_2 11 rfl rfl)
theorem dX0_init_60 : decode cX0_init 60 = .ok (.putfield 59, 3) := dk_181 0 59 (dk_at dksX0_init_2 14 rfl rfl)
theorem dX0_init_63 : decode cX0_init 63 = .ok (.aload_n 0, 1) := dk_42 (dk_at dksX0_init_2 17 rfl rfl)
theorem dX0_init_64 : decode cX0_init 64 = .ok (.bipush 6, 2) := dk_16 6 (dk_at dksX0_init_2 18 rfl rfl)
theorem dX0_init_66 : decode cX0_init 66 = .ok (.newarray .int, 2) := dk_188_10 (dk_at dksX0_init_2 20 rfl rfl)
theorem dX0_init_68 : decode cX0_init 68 = .ok (.putfield 62, 3) := dk_181 0 62 (dk_at dksX0_init_3 0 rfl rfl)
theorem dX0_init_71 : decode cX0_init 71 = .ok (.aload_n 0, 1) := dk_42 (dk_at dksX0_init_3 3 rfl rfl)
theorem dX0_init_72 : decode cX0_init 72 = .ok (.new 66, 3) := dk_187 0 66 (dk_at dksX0_init_3 4 rfl rfl)
theorem dX0_init_75 : decode cX0_init 75 = .ok (.dup, 1) := dk_89 (dk_at dksX0_init_3 7 rfl rfl)
theorem dX0_init_76 : decode cX0_init 76 = .ok (.aload_n 0, 1) := dk_42 (dk_at dksX0_init_3 8 rfl rfl)
theorem dX0_init_77 : decode cX0_init 77 = .ok (.invokespecial 68, 3) := dk_183 0 68 (dk_at dksX0_init_3 9 rfl rfl)
theorem dX0_init_80 : decode cX0_init 80 = .ok (.putfield 69, 3) := dk_181 0 69 (dk_at dksX0_init_3 12 rfl rfl)
theorem dX0_init_83 : decode cX0_init 83 = .ok (.aload_n 0, 1) := dk_42 (dk_at dksX0_init_3 15 rfl rfl)
theorem dX0_init_84 : decode cX0_init 84 = .ok (.new 73, 3) := dk_187 0 73 (dk_at dksX0_init_3 16 rfl rfl)
theorem dX0_init_87 : decode cX0_init 87 = .ok (.dup, 1) := dk_89 (dk_at dksX0_init_3 19 rfl rfl)
theorem dX0_init_88 : decode cX0_init 88 = .ok (.aload_n 0, 1) := dk_42 (dk_at dksX0_init_3 20 rfl rfl)
theorem dX0_init_89 : decode cX0_init 89 = .ok (.invokespecial 75, 3) := dk_183 0 75 (dk_at dksX0_init_3 21 rfl rfl)
theorem dX0_init_92 : decode cX0_init 92 = .ok (.putfield 76, 3) := dk_181 0 76 (dk_at dksX0_init_4 0 rfl rfl)
theorem dX0_init_95 : decode cX0_init 95 = .ok (.aload_n 0, 1) := dk_42 (dk_at dksX0_init_4 3 rfl rfl)
theorem dX0_init_96 : decode cX0_init 96 = .ok (.new 80, 3) := dk_187 0 80 (dk_at dksX0_init_4 4 rfl rfl)
theorem dX0_init_99 : decode cX0_init 99 = .ok (.dup, 1) := dk_89 (dk_at dksX0_init_4 7 rfl rfl)
theorem dX0_init_100 : decode cX0_init 100 = .ok (.aload_n 0, 1) := dk_42 (dk_at dksX0_init_4 8 rfl rfl)
theorem dX0_init_101 : decode cX0_init 101 = .ok (.invokespecial 82, 3) := dk_183 0 82 (dk_at dksX0_init_4 9 rfl rfl)
theorem dX0_init_104 : decode cX0_init 104 = .ok (.putfield 83, 3) := dk_181 0 83 (dk_at dksX0_init_4 12 rfl rfl)
theorem dX0_init_107 : decode cX0_init 107 = .ok (.aload_n 0, 1) := dk_42 (dk_at dksX0_init_4 15 rfl rfl)
theorem dX0_init_108 : decode cX0_init 108 = .ok (.new 80, 3) := dk_187 0 80 (dk_at dksX0_init_4 16 rfl rfl)
theorem dX0_init_111 : decode cX0_init 111 = .ok (.dup, 1) := dk_89 (dk_at dksX0_init_4 19 rfl rfl)
theorem dX0_init_112 : decode cX0_init 112 = .ok (.aload_n 0, 1) := dk_42 (dk_at dksX0_init_4 20 rfl rfl)
theorem dX0_init_113 : decode cX0_init 113 = .ok (.invokespecial 82, 3) := dk_183 0 82 (dk_at dksX0_init_4 21 rfl rfl)
theorem dX0_init_116 : decode cX0_init 116 = .ok (.putfield 87, 3) := dk_181 0 87 (dk_at dksX0_init_5 0 rfl rfl)
theorem dX0_init_119 : decode cX0_init 119 = .ok (.aload_n 0, 1) := dk_42 (dk_at dksX0_init_5 3 rfl rfl)
theorem dX0_init_120 : decode cX0_init 120 = .ok (.bipush 16, 2) := dk_16 16 (dk_at dksX0_init_5 4 rfl rfl)
theorem dX0_init_122 : decode cX0_init 122 = .ok (.newarray .int, 2) := dk_188_10 (dk_at dksX0_init_5 6 rfl rfl)
theorem dX0_init_124 : decode cX0_init 124 = .ok (.putfield 90, 3) := dk_181 0 90 (dk_at dksX0_init_5 8 rfl rfl)
theorem dX0_init_127 : decode cX0_init 127 = .ok (.aload_n 0, 1) := dk_42 (dk_at dksX0_init_5 11 rfl rfl)
theorem dX0_init_128 : decode cX0_init 128 = .ok (.bipush 16, 2) := dk_16 16 (dk_at dksX0_init_5 12 rfl rfl)
theorem dX0_init_130 : decode cX0_init 130 = .ok (.newarray .int, 2) := dk_188_10 (dk_at dksX0_init_5 14 rfl rfl)
theorem dX0_init_132 : decode cX0_init 132 = .ok (.putfield 93, 3) := dk_181 0 93 (dk_at dksX0_init_5 16 rfl rfl)
theorem dX0_init_135 : decode cX0_init 135 = .ok (.aload_n 0, 1) := dk_42 (dk_at dksX0_init_5 19 rfl rfl)
theorem dX0_init_136 : decode cX0_init 136 = .ok (.bipush 16, 2) := dk_16 16 (dk_at dksX0_init_5 20 rfl rfl)
theorem dX0_init_138 : decode cX0_init 138 = .ok (.newarray .int, 2) := dk_188_10 (dk_at dksX0_init_5 22 rfl rfl)
theorem dX0_init_140 : decode cX0_init 140 = .ok (.putfield 96, 3) := dk_181 0 96 (dk_at dksX0_init_6 0 rfl rfl)
theorem dX0_init_143 : decode cX0_init 143 = .ok (.aload_n 0, 1) := dk_42 (dk_at dksX0_init_6 3 rfl rfl)
theorem dX0_init_144 : decode cX0_init 144 = .ok (.bipush 10, 2) := dk_16 10 (dk_at dksX0_init_6 4 rfl rfl)
theorem dX0_init_146 : decode cX0_init 146 = .ok (.bipush 21, 2) := dk_16 21 (dk_at dksX0_init_6 6 rfl rfl)
theorem dX0_init_148 : decode cX0_init 148 = .ok (.multianewarray 99 2, 4) := by decide +kernel
theorem dX0_init_152 : decode cX0_init 152 = .ok (.putfield 101, 3) := dk_181 0 101 (dk_at dksX0_init_6 12 rfl rfl)
theorem dX0_init_155 : decode cX0_init 155 = .ok (.aload_n 0, 1) := dk_42 (dk_at dksX0_init_6 15 rfl rfl)
theorem dX0_init_156 : decode cX0_init 156 = .ok (.bipush 20, 2) := dk_16 20 (dk_at dksX0_init_6 16 rfl rfl)
theorem dX0_init_158 : decode cX0_init 158 = .ok (.anewarray 80, 3) := dk_189 0 80 (dk_at dksX0_init_6 18 rfl rfl)
theorem dX0_init_161 : decode cX0_init 161 = .ok (.putfield 104, 3) := dk_181 0 104 (dk_at dksX0_init_6 21 rfl rfl)
theorem dX0_init_164 : decode cX0_init 164 = .ok (.iconst 0, 1) := dk_3 (dk_at dksX0_init_7 0 rfl rfl)
theorem dX0_init_165 : decode cX0_init 165 = .ok (.istore_n 1, 1) := dk_60 (dk_at dksX0_init_7 1 rfl rfl)
theorem dX0_init_166 : decode cX0_init 166 = .ok (.iload_n 1, 1) := dk_27 (dk_at dksX0_init_7 2 rfl rfl)
theorem dX0_init_167 : decode cX0_init 167 = .ok (.bipush 20, 2) := dk_16 20 (dk_at dksX0_init_7 3 rfl rfl)
theorem dX0_init_169 : decode cX0_init 169 = .ok (.if_icmp .ge 23, 3) := dk_162 0 23 (dk_at dksX0_init_7 5 rfl rfl)
theorem dX0_init_172 : decode cX0_init 172 = .ok (.aload_n 0, 1) := dk_42 (dk_at dksX0_init_7 8 rfl rfl)
theorem dX0_init_173 : decode cX0_init 173 = .ok (.getfield 104, 3) := dk_180 0 104 (dk_at dksX0_init_7 9 rfl rfl)
theorem dX0_init_176 : decode cX0_init 176 = .ok (.iload_n 1, 1) := dk_27 (dk_at dksX0_init_7 12 rfl rfl)
theorem dX0_init_177 : decode cX0_init 177 = .ok (.new 80, 3) := dk_187 0 80 (dk_at dksX0_init_7 13 rfl rfl)
theorem dX0_init_180 : decode cX0_init 180 = .ok (.dup, 1) := dk_89 (dk_at dksX0_init_7 16 rfl rfl)
theorem dX0_init_181 : decode cX0_init 181 = .ok (.aload_n 0, 1) := dk_42 (dk_at dksX0_init_7 17 rfl rfl)
theorem dX0_init_182 : decode cX0_init 182 = .ok (.invokespecial 82, 3) := dk_183 0 82 (dk_at dksX0_init_7 18 rfl rfl)
theorem dX0_init_185 : decode cX0_init 185 = .ok (.aastore, 1) := dk_83 (dk_at dksX0_init_7 21 rfl rfl)
theorem dX0_init_186 : decode cX0_init 186 = .ok (.iinc 1 1, 3) := dk_132 1 1 (dk_at dksX0_init_8 0 rfl rfl)
theorem dX0_init_189 : decode cX0_init 189 = .ok (.goto (-23), 3) := dk_167 255 233 (dk_at dksX0_init_8 3 rfl rfl)
theorem dX0_init_192 : decode cX0_init 192 = .ok (.aload_n 0, 1) := dk_42 (dk_at dksX0_init_8 6 rfl rfl)
theorem dX0_init_193 : decode cX0_init 193 = .ok (.lconst 1, 1) := dk_10 (dk_at dksX0_init_8 7 rfl rfl)
theorem dX0_init_194 : decode cX0_init 194 = .ok (.putfield 108, 3) := dk_181 0 108 (dk_at dksX0_init_8 8 rfl rfl)
theorem dX0_init_197 : decode cX0_init 197 = .ok (.aload_n 0, 1) := dk_42 (dk_at dksX0_init_8 11 rfl rfl)
theorem dX0_init_198 : decode cX0_init 198 = .ok (.bipush 70, 2) := dk_16 70 (dk_at dksX0_init_8 12 rfl rfl)
theorem dX0_init_200 : decode cX0_init 200 = .ok (.newarray .byte, 2) := dk_188_8 (dk_at dksX0_init_8 14 rfl rfl)
theorem dX0_init_202 : decode cX0_init 202 = .ok (.putfield 112, 3) := dk_181 0 112 (dk_at dksX0_init_8 16 rfl rfl)
theorem dX0_init_205 : decode cX0_init 205 = .ok (.return_, 1) := dk_177 (dk_at dksX0_init_8 19 rfl rfl)
abbrev cX0_feed : ByteArray := prog_1_method_10_code
def yX0_feed : MethodName := ⟨RX0, "feed", "(IIIII)I"⟩
def dkwX0_feed_2 : List UInt8 := [180, 0, 115, 172]
abbrev dktX0_feed_2 : List UInt8 := dkwX0_feed_2 ++ []
def dkwX0_feed_1 : List UInt8 := [42, 28, 182, 0, 122, 42, 29, 182, 0, 122, 42, 21, 4, 182, 0, 122, 42, 21, 5, 182, 0, 122, 42]
abbrev dktX0_feed_1 : List UInt8 := dkwX0_feed_1 ++ dktX0_feed_2
def dkwX0_feed_0 : List UInt8 := [42, 180, 0, 115, 16, 20, 96, 17, 6, 64, 164, 0, 9, 42, 3, 182, 0, 118, 172, 42, 27, 182, 0, 122]
abbrev dktX0_feed_0 : List UInt8 := dkwX0_feed_0 ++ dktX0_feed_1
theorem dksX0_feed_0 : cX0_feed.data.toList.drop 0 = dktX0_feed_0 := by decide +kernel
theorem dksX0_feed_1 : cX0_feed.data.toList.drop 24 = dktX0_feed_1 := dk_seg dksX0_feed_0 24 rfl rfl
theorem dksX0_feed_2 : cX0_feed.data.toList.drop 47 = dktX0_feed_2 := dk_seg dksX0_feed_1 23 rfl rfl
theorem dX0_feed_0 : decode cX0_feed 0 = .ok (.aload_n 0, 1) := dk_42 (dk_at dksX0_feed_0 0 rfl rfl)
theorem dX0_feed_1 : decode cX0_feed 1 = .ok (.getfield 115, 3) := dk_180 0 115 (dk_at dksX0_feed_0 1 rfl rfl)
theorem dX0_feed_4 : decode cX0_feed 4 = .ok (.bipush 20, 2) := dk_16 20 (dk_at dksX0_feed_0 4 rfl rfl)
theorem dX0_feed_6 : decode cX0_feed 6 = .ok (.iadd, 1) := dk_96 (dk_at dksX0_feed_0 6 rfl rfl)
theorem dX0_feed_7 : decode cX0_feed 7 = .ok (.sipush 1600, 3) := dk_17 6 64 (dk_at dksX0_feed_0 7 rfl rfl)
theorem dX0_feed_10 : decode cX0_feed 10 = .ok (.if_icmp .le 9, 3) := dk_164 0 9 (dk_at dksX0_feed_0 10 rfl rfl)
theorem dX0_feed_13 : decode cX0_feed 13 = .ok (.aload_n 0, 1) := dk_42 (dk_at dksX0_feed_0 13 rfl rfl)
theorem dX0_feed_14 : decode cX0_feed 14 = .ok (.iconst 0, 1) := dk_3 (dk_at dksX0_feed_0 14 rfl rfl)
theorem dX0_feed_15 : decode cX0_feed 15 = .ok (.invokevirtual 118, 3) := dk_182 0 118 (dk_at dksX0_feed_0 15 rfl rfl)
theorem dX0_feed_18 : decode cX0_feed 18 = .ok (.ireturn, 1) := dk_172 (dk_at dksX0_feed_0 18 rfl rfl)
theorem dX0_feed_19 : decode cX0_feed 19 = .ok (.aload_n 0, 1) := dk_42 (dk_at dksX0_feed_0 19 rfl rfl)
theorem dX0_feed_20 : decode cX0_feed 20 = .ok (.iload_n 1, 1) := dk_27 (dk_at dksX0_feed_0 20 rfl rfl)
theorem dX0_feed_21 : decode cX0_feed 21 = .ok (.invokevirtual 122, 3) := dk_182 0 122 (dk_at dksX0_feed_0 21 rfl rfl)
theorem dX0_feed_24 : decode cX0_feed 24 = .ok (.aload_n 0, 1) := dk_42 (dk_at dksX0_feed_1 0 rfl rfl)
theorem dX0_feed_25 : decode cX0_feed 25 = .ok (.iload_n 2, 1) := dk_28 (dk_at dksX0_feed_1 1 rfl rfl)
theorem dX0_feed_26 : decode cX0_feed 26 = .ok (.invokevirtual 122, 3) := dk_182 0 122 (dk_at dksX0_feed_1 2 rfl rfl)
theorem dX0_feed_29 : decode cX0_feed 29 = .ok (.aload_n 0, 1) := dk_42 (dk_at dksX0_feed_1 5 rfl rfl)
theorem dX0_feed_30 : decode cX0_feed 30 = .ok (.iload_n 3, 1) := dk_29 (dk_at dksX0_feed_1 6 rfl rfl)
theorem dX0_feed_31 : decode cX0_feed 31 = .ok (.invokevirtual 122, 3) := dk_182 0 122 (dk_at dksX0_feed_1 7 rfl rfl)
theorem dX0_feed_34 : decode cX0_feed 34 = .ok (.aload_n 0, 1) := dk_42 (dk_at dksX0_feed_1 10 rfl rfl)
theorem dX0_feed_35 : decode cX0_feed 35 = .ok (.iload 4, 2) := dk_21 4 (dk_at dksX0_feed_1 11 rfl rfl)
theorem dX0_feed_37 : decode cX0_feed 37 = .ok (.invokevirtual 122, 3) := dk_182 0 122 (dk_at dksX0_feed_1 13 rfl rfl)
theorem dX0_feed_40 : decode cX0_feed 40 = .ok (.aload_n 0, 1) := dk_42 (dk_at dksX0_feed_1 16 rfl rfl)
theorem dX0_feed_41 : decode cX0_feed 41 = .ok (.iload 5, 2) := dk_21 5 (dk_at dksX0_feed_1 17 rfl rfl)
theorem dX0_feed_43 : decode cX0_feed 43 = .ok (.invokevirtual 122, 3) := dk_182 0 122 (dk_at dksX0_feed_1 19 rfl rfl)
theorem dX0_feed_46 : decode cX0_feed 46 = .ok (.aload_n 0, 1) := dk_42 (dk_at dksX0_feed_1 22 rfl rfl)
theorem dX0_feed_47 : decode cX0_feed 47 = .ok (.getfield 115, 3) := dk_180 0 115 (dk_at dksX0_feed_2 0 rfl rfl)
theorem dX0_feed_50 : decode cX0_feed 50 = .ok (.ireturn, 1) := dk_172 (dk_at dksX0_feed_2 3 rfl rfl)
abbrev cX0_refuses : ByteArray := prog_1_method_8_code
def yX0_refuses : MethodName := ⟨RX0, "refuses", "(I)I"⟩
def dkwX0_refuses_0 : List UInt8 := [42, 180, 0, 62, 27, 92, 46, 4, 96, 79, 2, 172]
abbrev dktX0_refuses_0 : List UInt8 := dkwX0_refuses_0 ++ []
theorem dksX0_refuses_0 : cX0_refuses.data.toList.drop 0 = dktX0_refuses_0 := by decide +kernel
theorem dX0_refuses_0 : decode cX0_refuses 0 = .ok (.aload_n 0, 1) := dk_42 (dk_at dksX0_refuses_0 0 rfl rfl)
theorem dX0_refuses_1 : decode cX0_refuses 1 = .ok (.getfield 62, 3) := dk_180 0 62 (dk_at dksX0_refuses_0 1 rfl rfl)
theorem dX0_refuses_4 : decode cX0_refuses 4 = .ok (.iload_n 1, 1) := dk_27 (dk_at dksX0_refuses_0 4 rfl rfl)
theorem dX0_refuses_5 : decode cX0_refuses 5 = .ok (.dup2, 1) := dk_92 (dk_at dksX0_refuses_0 5 rfl rfl)
theorem dX0_refuses_6 : decode cX0_refuses 6 = .ok (.iaload, 1) := dk_46 (dk_at dksX0_refuses_0 6 rfl rfl)
theorem dX0_refuses_7 : decode cX0_refuses 7 = .ok (.iconst 1, 1) := dk_4 (dk_at dksX0_refuses_0 7 rfl rfl)
theorem dX0_refuses_8 : decode cX0_refuses 8 = .ok (.iadd, 1) := dk_96 (dk_at dksX0_refuses_0 8 rfl rfl)
theorem dX0_refuses_9 : decode cX0_refuses 9 = .ok (.iastore, 1) := dk_79 (dk_at dksX0_refuses_0 9 rfl rfl)
theorem dX0_refuses_10 : decode cX0_refuses 10 = .ok (.iconst (-1), 1) := dk_2 (dk_at dksX0_refuses_0 10 rfl rfl)
theorem dX0_refuses_11 : decode cX0_refuses 11 = .ok (.ireturn, 1) := dk_172 (dk_at dksX0_refuses_0 11 rfl rfl)
abbrev cX0_put : ByteArray := prog_1_method_9_code
def yX0_put : MethodName := ⟨RX0, "put", "(I)V"⟩
def dkwX0_put_1 : List UInt8 := [122, 145, 84, 132, 2, 248, 167, 255, 229, 177]
abbrev dktX0_put_1 : List UInt8 := dkwX0_put_1 ++ []
def dkwX0_put_0 : List UInt8 := [16, 24, 61, 28, 155, 0, 29, 42, 180, 0, 35, 42, 89, 180, 0, 115, 90, 4, 96, 181, 0, 115, 27, 28]
abbrev dktX0_put_0 : List UInt8 := dkwX0_put_0 ++ dktX0_put_1
theorem dksX0_put_0 : cX0_put.data.toList.drop 0 = dktX0_put_0 := by decide +kernel
theorem dksX0_put_1 : cX0_put.data.toList.drop 24 = dktX0_put_1 := dk_seg dksX0_put_0 24 rfl rfl
theorem dX0_put_0 : decode cX0_put 0 = .ok (.bipush 24, 2) := dk_16 24 (dk_at dksX0_put_0 0 rfl rfl)
theorem dX0_put_2 : decode cX0_put 2 = .ok (.istore_n 2, 1) := dk_61 (dk_at dksX0_put_0 2 rfl rfl)
theorem dX0_put_3 : decode cX0_put 3 = .ok (.iload_n 2, 1) := dk_28 (dk_at dksX0_put_0 3 rfl rfl)
theorem dX0_put_4 : decode cX0_put 4 = .ok (.ifCond .lt 29, 3) := dk_155 0 29 (dk_at dksX0_put_0 4 rfl rfl)
theorem dX0_put_7 : decode cX0_put 7 = .ok (.aload_n 0, 1) := dk_42 (dk_at dksX0_put_0 7 rfl rfl)
theorem dX0_put_8 : decode cX0_put 8 = .ok (.getfield 35, 3) := dk_180 0 35 (dk_at dksX0_put_0 8 rfl rfl)
theorem dX0_put_11 : decode cX0_put 11 = .ok (.aload_n 0, 1) := dk_42 (dk_at dksX0_put_0 11 rfl rfl)
theorem dX0_put_12 : decode cX0_put 12 = .ok (.dup, 1) := dk_89 (dk_at dksX0_put_0 12 rfl rfl)
theorem dX0_put_13 : decode cX0_put 13 = .ok (.getfield 115, 3) := dk_180 0 115 (dk_at dksX0_put_0 13 rfl rfl)
theorem dX0_put_16 : decode cX0_put 16 = .ok (.dup_x1, 1) := dk_90 (dk_at dksX0_put_0 16 rfl rfl)
theorem dX0_put_17 : decode cX0_put 17 = .ok (.iconst 1, 1) := dk_4 (dk_at dksX0_put_0 17 rfl rfl)
theorem dX0_put_18 : decode cX0_put 18 = .ok (.iadd, 1) := dk_96 (dk_at dksX0_put_0 18 rfl rfl)
theorem dX0_put_19 : decode cX0_put 19 = .ok (.putfield 115, 3) := dk_181 0 115 (dk_at dksX0_put_0 19 rfl rfl)
theorem dX0_put_22 : decode cX0_put 22 = .ok (.iload_n 1, 1) := dk_27 (dk_at dksX0_put_0 22 rfl rfl)
theorem dX0_put_23 : decode cX0_put 23 = .ok (.iload_n 2, 1) := dk_28 (dk_at dksX0_put_0 23 rfl rfl)
theorem dX0_put_24 : decode cX0_put 24 = .ok (.ishr, 1) := dk_122 (dk_at dksX0_put_1 0 rfl rfl)
theorem dX0_put_25 : decode cX0_put 25 = .ok (.i2b, 1) := dk_145 (dk_at dksX0_put_1 1 rfl rfl)
theorem dX0_put_26 : decode cX0_put 26 = .ok (.bastore, 1) := dk_84 (dk_at dksX0_put_1 2 rfl rfl)
theorem dX0_put_27 : decode cX0_put 27 = .ok (.iinc 2 (-8), 3) := dk_132 2 248 (dk_at dksX0_put_1 3 rfl rfl)
theorem dX0_put_30 : decode cX0_put 30 = .ok (.goto (-27), 3) := dk_167 255 229 (dk_at dksX0_put_1 6 rfl rfl)
theorem dX0_put_33 : decode cX0_put 33 = .ok (.return_, 1) := dk_177 (dk_at dksX0_put_1 9 rfl rfl)
abbrev cX0_end : ByteArray := prog_1_method_11_code
def yX0_end : MethodName := ⟨RX0, "end", "(I)Z"⟩
def dkwX0_end_1 : List UInt8 := [3, 172, 42, 27, 181, 0, 115, 4, 172]
abbrev dktX0_end_1 : List UInt8 := dkwX0_end_1 ++ []
def dkwX0_end_0 : List UInt8 := [27, 155, 0, 11, 27, 42, 180, 0, 115, 164, 0, 17, 42, 3, 182, 0, 118, 155, 0, 7, 4, 167, 0, 4]
abbrev dktX0_end_0 : List UInt8 := dkwX0_end_0 ++ dktX0_end_1
theorem dksX0_end_0 : cX0_end.data.toList.drop 0 = dktX0_end_0 := by decide +kernel
theorem dksX0_end_1 : cX0_end.data.toList.drop 24 = dktX0_end_1 := dk_seg dksX0_end_0 24 rfl rfl
theorem dX0_end_0 : decode cX0_end 0 = .ok (.iload_n 1, 1) := dk_27 (dk_at dksX0_end_0 0 rfl rfl)
theorem dX0_end_1 : decode cX0_end 1 = .ok (.ifCond .lt 11, 3) := dk_155 0 11 (dk_at dksX0_end_0 1 rfl rfl)
theorem dX0_end_4 : decode cX0_end 4 = .ok (.iload_n 1, 1) := dk_27 (dk_at dksX0_end_0 4 rfl rfl)
theorem dX0_end_5 : decode cX0_end 5 = .ok (.aload_n 0, 1) := dk_42 (dk_at dksX0_end_0 5 rfl rfl)
theorem dX0_end_6 : decode cX0_end 6 = .ok (.getfield 115, 3) := dk_180 0 115 (dk_at dksX0_end_0 6 rfl rfl)
theorem dX0_end_9 : decode cX0_end 9 = .ok (.if_icmp .le 17, 3) := dk_164 0 17 (dk_at dksX0_end_0 9 rfl rfl)
theorem dX0_end_12 : decode cX0_end 12 = .ok (.aload_n 0, 1) := dk_42 (dk_at dksX0_end_0 12 rfl rfl)
theorem dX0_end_13 : decode cX0_end 13 = .ok (.iconst 0, 1) := dk_3 (dk_at dksX0_end_0 13 rfl rfl)
theorem dX0_end_14 : decode cX0_end 14 = .ok (.invokevirtual 118, 3) := dk_182 0 118 (dk_at dksX0_end_0 14 rfl rfl)
theorem dX0_end_17 : decode cX0_end 17 = .ok (.ifCond .lt 7, 3) := dk_155 0 7 (dk_at dksX0_end_0 17 rfl rfl)
theorem dX0_end_20 : decode cX0_end 20 = .ok (.iconst 1, 1) := dk_4 (dk_at dksX0_end_0 20 rfl rfl)
theorem dX0_end_21 : decode cX0_end 21 = .ok (.goto 4, 3) := dk_167 0 4 (dk_at dksX0_end_0 21 rfl rfl)
theorem dX0_end_24 : decode cX0_end 24 = .ok (.iconst 0, 1) := dk_3 (dk_at dksX0_end_1 0 rfl rfl)
theorem dX0_end_25 : decode cX0_end 25 = .ok (.ireturn, 1) := dk_172 (dk_at dksX0_end_1 1 rfl rfl)
theorem dX0_end_26 : decode cX0_end 26 = .ok (.aload_n 0, 1) := dk_42 (dk_at dksX0_end_1 2 rfl rfl)
theorem dX0_end_27 : decode cX0_end 27 = .ok (.iload_n 1, 1) := dk_27 (dk_at dksX0_end_1 3 rfl rfl)
theorem dX0_end_28 : decode cX0_end 28 = .ok (.putfield 115, 3) := dk_181 0 115 (dk_at dksX0_end_1 4 rfl rfl)
theorem dX0_end_31 : decode cX0_end 31 = .ok (.iconst 1, 1) := dk_4 (dk_at dksX0_end_1 7 rfl rfl)
theorem dX0_end_32 : decode cX0_end 32 = .ok (.ireturn, 1) := dk_172 (dk_at dksX0_end_1 8 rfl rfl)
abbrev cX0_country : ByteArray := prog_1_method_13_code
def yX0_country : MethodName := ⟨RX0, "country", "()I"⟩
def dkwX0_country_3 : List UInt8 := [180, 0, 31, 180, 0, 154, 172]
abbrev dktX0_country_3 : List UInt8 := dkwX0_country_3 ++ []
def dkwX0_country_2 : List UInt8 := [4, 182, 0, 118, 172, 42, 180, 0, 83, 182, 0, 145, 42, 3, 181, 0, 148, 42, 3, 181, 0, 151, 42]
abbrev dktX0_country_2 : List UInt8 := dkwX0_country_2 ++ dktX0_country_3
def dkwX0_country_1 : List UInt8 := [181, 0, 31, 167, 0, 26, 76, 42, 43, 180, 0, 139, 181, 0, 126, 42, 43, 180, 0, 142, 181, 0, 39, 42]
abbrev dktX0_country_1 : List UInt8 := dkwX0_country_1 ++ dktX0_country_2
def dkwX0_country_0 : List UInt8 := [42, 3, 181, 0, 126, 42, 2, 181, 0, 39, 42, 42, 180, 0, 48, 42, 182, 0, 129, 182, 0, 133]
abbrev dktX0_country_0 : List UInt8 := dkwX0_country_0 ++ dktX0_country_1
theorem dksX0_country_0 : cX0_country.data.toList.drop 0 = dktX0_country_0 := by decide +kernel
theorem dksX0_country_1 : cX0_country.data.toList.drop 22 = dktX0_country_1 := dk_seg dksX0_country_0 22 rfl rfl
theorem dksX0_country_2 : cX0_country.data.toList.drop 46 = dktX0_country_2 := dk_seg dksX0_country_1 24 rfl rfl
theorem dksX0_country_3 : cX0_country.data.toList.drop 69 = dktX0_country_3 := dk_seg dksX0_country_2 23 rfl rfl
theorem dX0_country_0 : decode cX0_country 0 = .ok (.aload_n 0, 1) := dk_42 (dk_at dksX0_country_0 0 rfl rfl)
theorem dX0_country_1 : decode cX0_country 1 = .ok (.iconst 0, 1) := dk_3 (dk_at dksX0_country_0 1 rfl rfl)
theorem dX0_country_2 : decode cX0_country 2 = .ok (.putfield 126, 3) := dk_181 0 126 (dk_at dksX0_country_0 2 rfl rfl)
theorem dX0_country_5 : decode cX0_country 5 = .ok (.aload_n 0, 1) := dk_42 (dk_at dksX0_country_0 5 rfl rfl)
theorem dX0_country_6 : decode cX0_country 6 = .ok (.iconst (-1), 1) := dk_2 (dk_at dksX0_country_0 6 rfl rfl)
theorem dX0_country_7 : decode cX0_country 7 = .ok (.putfield 39, 3) := dk_181 0 39 (dk_at dksX0_country_0 7 rfl rfl)
theorem dX0_country_10 : decode cX0_country 10 = .ok (.aload_n 0, 1) := dk_42 (dk_at dksX0_country_0 10 rfl rfl)
theorem dX0_country_11 : decode cX0_country 11 = .ok (.aload_n 0, 1) := dk_42 (dk_at dksX0_country_0 11 rfl rfl)
theorem dX0_country_12 : decode cX0_country 12 = .ok (.getfield 48, 3) := dk_180 0 48 (dk_at dksX0_country_0 12 rfl rfl)
theorem dX0_country_15 : decode cX0_country 15 = .ok (.aload_n 0, 1) := dk_42 (dk_at dksX0_country_0 15 rfl rfl)
theorem dX0_country_16 : decode cX0_country 16 = .ok (.invokevirtual 129, 3) := dk_182 0 129 (dk_at dksX0_country_0 16 rfl rfl)
theorem dX0_country_19 : decode cX0_country 19 = .ok (.invokevirtual 133, 3) := dk_182 0 133 (dk_at dksX0_country_0 19 rfl rfl)
theorem dX0_country_22 : decode cX0_country 22 = .ok (.putfield 31, 3) := dk_181 0 31 (dk_at dksX0_country_1 0 rfl rfl)
theorem dX0_country_25 : decode cX0_country 25 = .ok (.goto 26, 3) := dk_167 0 26 (dk_at dksX0_country_1 3 rfl rfl)
theorem dX0_country_28 : decode cX0_country 28 = .ok (.astore_n 1, 1) := dk_76 (dk_at dksX0_country_1 6 rfl rfl)
theorem dX0_country_29 : decode cX0_country 29 = .ok (.aload_n 0, 1) := dk_42 (dk_at dksX0_country_1 7 rfl rfl)
theorem dX0_country_30 : decode cX0_country 30 = .ok (.aload_n 1, 1) := dk_43 (dk_at dksX0_country_1 8 rfl rfl)
theorem dX0_country_31 : decode cX0_country 31 = .ok (.getfield 139, 3) := dk_180 0 139 (dk_at dksX0_country_1 9 rfl rfl)
theorem dX0_country_34 : decode cX0_country 34 = .ok (.putfield 126, 3) := dk_181 0 126 (dk_at dksX0_country_1 12 rfl rfl)
theorem dX0_country_37 : decode cX0_country 37 = .ok (.aload_n 0, 1) := dk_42 (dk_at dksX0_country_1 15 rfl rfl)
theorem dX0_country_38 : decode cX0_country 38 = .ok (.aload_n 1, 1) := dk_43 (dk_at dksX0_country_1 16 rfl rfl)
theorem dX0_country_39 : decode cX0_country 39 = .ok (.getfield 142, 3) := dk_180 0 142 (dk_at dksX0_country_1 17 rfl rfl)
theorem dX0_country_42 : decode cX0_country 42 = .ok (.putfield 39, 3) := dk_181 0 39 (dk_at dksX0_country_1 20 rfl rfl)
theorem dX0_country_45 : decode cX0_country 45 = .ok (.aload_n 0, 1) := dk_42 (dk_at dksX0_country_1 23 rfl rfl)
theorem dX0_country_46 : decode cX0_country 46 = .ok (.iconst 1, 1) := dk_4 (dk_at dksX0_country_2 0 rfl rfl)
theorem dX0_country_47 : decode cX0_country 47 = .ok (.invokevirtual 118, 3) := dk_182 0 118 (dk_at dksX0_country_2 1 rfl rfl)
theorem dX0_country_50 : decode cX0_country 50 = .ok (.ireturn, 1) := dk_172 (dk_at dksX0_country_2 4 rfl rfl)
theorem dX0_country_51 : decode cX0_country 51 = .ok (.aload_n 0, 1) := dk_42 (dk_at dksX0_country_2 5 rfl rfl)
theorem dX0_country_52 : decode cX0_country 52 = .ok (.getfield 83, 3) := dk_180 0 83 (dk_at dksX0_country_2 6 rfl rfl)
theorem dX0_country_55 : decode cX0_country 55 = .ok (.invokevirtual 145, 3) := dk_182 0 145 (dk_at dksX0_country_2 9 rfl rfl)
theorem dX0_country_58 : decode cX0_country 58 = .ok (.aload_n 0, 1) := dk_42 (dk_at dksX0_country_2 12 rfl rfl)
theorem dX0_country_59 : decode cX0_country 59 = .ok (.iconst 0, 1) := dk_3 (dk_at dksX0_country_2 13 rfl rfl)
theorem dX0_country_60 : decode cX0_country 60 = .ok (.putfield 148, 3) := dk_181 0 148 (dk_at dksX0_country_2 14 rfl rfl)
theorem dX0_country_63 : decode cX0_country 63 = .ok (.aload_n 0, 1) := dk_42 (dk_at dksX0_country_2 17 rfl rfl)
theorem dX0_country_64 : decode cX0_country 64 = .ok (.iconst 0, 1) := dk_3 (dk_at dksX0_country_2 18 rfl rfl)
theorem dX0_country_65 : decode cX0_country 65 = .ok (.putfield 151, 3) := dk_181 0 151 (dk_at dksX0_country_2 19 rfl rfl)
theorem dX0_country_68 : decode cX0_country 68 = .ok (.aload_n 0, 1) := dk_42 (dk_at dksX0_country_2 22 rfl rfl)
theorem dX0_country_69 : decode cX0_country 69 = .ok (.getfield 31, 3) := dk_180 0 31 (dk_at dksX0_country_3 0 rfl rfl)
theorem dX0_country_72 : decode cX0_country 72 = .ok (.getfield 154, 3) := dk_180 0 154 (dk_at dksX0_country_3 3 rfl rfl)
theorem dX0_country_75 : decode cX0_country 75 = .ok (.ireturn, 1) := dk_172 (dk_at dksX0_country_3 6 rfl rfl)
abbrev cX0_taken : ByteArray := prog_1_method_12_code
def yX0_taken : MethodName := ⟨RX0, "taken", "()I"⟩
def dkwX0_taken_0 : List UInt8 := [42, 180, 0, 115, 60, 42, 3, 181, 0, 115, 27, 172]
abbrev dktX0_taken_0 : List UInt8 := dkwX0_taken_0 ++ []
theorem dksX0_taken_0 : cX0_taken.data.toList.drop 0 = dktX0_taken_0 := by decide +kernel
theorem dX0_taken_0 : decode cX0_taken 0 = .ok (.aload_n 0, 1) := dk_42 (dk_at dksX0_taken_0 0 rfl rfl)
theorem dX0_taken_1 : decode cX0_taken 1 = .ok (.getfield 115, 3) := dk_180 0 115 (dk_at dksX0_taken_0 1 rfl rfl)
theorem dX0_taken_4 : decode cX0_taken 4 = .ok (.istore_n 1, 1) := dk_60 (dk_at dksX0_taken_0 4 rfl rfl)
theorem dX0_taken_5 : decode cX0_taken 5 = .ok (.aload_n 0, 1) := dk_42 (dk_at dksX0_taken_0 5 rfl rfl)
theorem dX0_taken_6 : decode cX0_taken 6 = .ok (.iconst 0, 1) := dk_3 (dk_at dksX0_taken_0 6 rfl rfl)
theorem dX0_taken_7 : decode cX0_taken 7 = .ok (.putfield 115, 3) := dk_181 0 115 (dk_at dksX0_taken_0 7 rfl rfl)
theorem dX0_taken_10 : decode cX0_taken 10 = .ok (.iload_n 1, 1) := dk_27 (dk_at dksX0_taken_0 10 rfl rfl)
theorem dX0_taken_11 : decode cX0_taken 11 = .ok (.ireturn, 1) := dk_172 (dk_at dksX0_taken_0 11 rfl rfl)
abbrev cX0_isLetter : ByteArray := prog_1_method_4_code
def yX0_isLetter : MethodName := ⟨RX0, "isLetter", "(I)Z"⟩
def dkwX0_isLetter_0 : List UInt8 := [26, 16, 97, 161, 0, 13, 26, 16, 122, 163, 0, 7, 4, 167, 0, 4, 3, 172]
abbrev dktX0_isLetter_0 : List UInt8 := dkwX0_isLetter_0 ++ []
theorem dksX0_isLetter_0 : cX0_isLetter.data.toList.drop 0 = dktX0_isLetter_0 := by decide +kernel
theorem dX0_isLetter_0 : decode cX0_isLetter 0 = .ok (.iload_n 0, 1) := dk_26 (dk_at dksX0_isLetter_0 0 rfl rfl)
theorem dX0_isLetter_1 : decode cX0_isLetter 1 = .ok (.bipush 97, 2) := dk_16 97 (dk_at dksX0_isLetter_0 1 rfl rfl)
theorem dX0_isLetter_3 : decode cX0_isLetter 3 = .ok (.if_icmp .lt 13, 3) := dk_161 0 13 (dk_at dksX0_isLetter_0 3 rfl rfl)
theorem dX0_isLetter_6 : decode cX0_isLetter 6 = .ok (.iload_n 0, 1) := dk_26 (dk_at dksX0_isLetter_0 6 rfl rfl)
theorem dX0_isLetter_7 : decode cX0_isLetter 7 = .ok (.bipush 122, 2) := dk_16 122 (dk_at dksX0_isLetter_0 7 rfl rfl)
theorem dX0_isLetter_9 : decode cX0_isLetter 9 = .ok (.if_icmp .gt 7, 3) := dk_163 0 7 (dk_at dksX0_isLetter_0 9 rfl rfl)
theorem dX0_isLetter_12 : decode cX0_isLetter 12 = .ok (.iconst 1, 1) := dk_4 (dk_at dksX0_isLetter_0 12 rfl rfl)
theorem dX0_isLetter_13 : decode cX0_isLetter 13 = .ok (.goto 4, 3) := dk_167 0 4 (dk_at dksX0_isLetter_0 13 rfl rfl)
theorem dX0_isLetter_16 : decode cX0_isLetter 16 = .ok (.iconst 0, 1) := dk_3 (dk_at dksX0_isLetter_0 16 rfl rfl)
theorem dX0_isLetter_17 : decode cX0_isLetter 17 = .ok (.ireturn, 1) := dk_172 (dk_at dksX0_isLetter_0 17 rfl rfl)
abbrev cX0_isDigit : ByteArray := prog_1_method_5_code
def yX0_isDigit : MethodName := ⟨RX0, "isDigit", "(I)Z"⟩
def dkwX0_isDigit_0 : List UInt8 := [26, 16, 48, 161, 0, 13, 26, 16, 57, 163, 0, 7, 4, 167, 0, 4, 3, 172]
abbrev dktX0_isDigit_0 : List UInt8 := dkwX0_isDigit_0 ++ []
theorem dksX0_isDigit_0 : cX0_isDigit.data.toList.drop 0 = dktX0_isDigit_0 := by decide +kernel
theorem dX0_isDigit_0 : decode cX0_isDigit 0 = .ok (.iload_n 0, 1) := dk_26 (dk_at dksX0_isDigit_0 0 rfl rfl)
theorem dX0_isDigit_1 : decode cX0_isDigit 1 = .ok (.bipush 48, 2) := dk_16 48 (dk_at dksX0_isDigit_0 1 rfl rfl)
theorem dX0_isDigit_3 : decode cX0_isDigit 3 = .ok (.if_icmp .lt 13, 3) := dk_161 0 13 (dk_at dksX0_isDigit_0 3 rfl rfl)
theorem dX0_isDigit_6 : decode cX0_isDigit 6 = .ok (.iload_n 0, 1) := dk_26 (dk_at dksX0_isDigit_0 6 rfl rfl)
theorem dX0_isDigit_7 : decode cX0_isDigit 7 = .ok (.bipush 57, 2) := dk_16 57 (dk_at dksX0_isDigit_0 7 rfl rfl)
theorem dX0_isDigit_9 : decode cX0_isDigit 9 = .ok (.if_icmp .gt 7, 3) := dk_163 0 7 (dk_at dksX0_isDigit_0 9 rfl rfl)
theorem dX0_isDigit_12 : decode cX0_isDigit 12 = .ok (.iconst 1, 1) := dk_4 (dk_at dksX0_isDigit_0 12 rfl rfl)
theorem dX0_isDigit_13 : decode cX0_isDigit 13 = .ok (.goto 4, 3) := dk_167 0 4 (dk_at dksX0_isDigit_0 13 rfl rfl)
theorem dX0_isDigit_16 : decode cX0_isDigit 16 = .ok (.iconst 0, 1) := dk_3 (dk_at dksX0_isDigit_0 16 rfl rfl)
theorem dX0_isDigit_17 : decode cX0_isDigit 17 = .ok (.ireturn, 1) := dk_172 (dk_at dksX0_isDigit_0 17 rfl rfl)
abbrev cX0_is : ByteArray := prog_1_method_1_code
def yX0_is : MethodName := ⟨RX0, "is", "(III)Z"⟩
def dkwX0_is_0 : List UInt8 := [26, 27, 161, 0, 12, 26, 28, 163, 0, 7, 4, 167, 0, 4, 3, 172]
abbrev dktX0_is_0 : List UInt8 := dkwX0_is_0 ++ []
theorem dksX0_is_0 : cX0_is.data.toList.drop 0 = dktX0_is_0 := by decide +kernel
theorem dX0_is_0 : decode cX0_is 0 = .ok (.iload_n 0, 1) := dk_26 (dk_at dksX0_is_0 0 rfl rfl)
theorem dX0_is_1 : decode cX0_is 1 = .ok (.iload_n 1, 1) := dk_27 (dk_at dksX0_is_0 1 rfl rfl)
theorem dX0_is_2 : decode cX0_is 2 = .ok (.if_icmp .lt 12, 3) := dk_161 0 12 (dk_at dksX0_is_0 2 rfl rfl)
theorem dX0_is_5 : decode cX0_is 5 = .ok (.iload_n 0, 1) := dk_26 (dk_at dksX0_is_0 5 rfl rfl)
theorem dX0_is_6 : decode cX0_is 6 = .ok (.iload_n 2, 1) := dk_28 (dk_at dksX0_is_0 6 rfl rfl)
theorem dX0_is_7 : decode cX0_is 7 = .ok (.if_icmp .gt 7, 3) := dk_163 0 7 (dk_at dksX0_is_0 7 rfl rfl)
theorem dX0_is_10 : decode cX0_is 10 = .ok (.iconst 1, 1) := dk_4 (dk_at dksX0_is_0 10 rfl rfl)
theorem dX0_is_11 : decode cX0_is 11 = .ok (.goto 4, 3) := dk_167 0 4 (dk_at dksX0_is_0 11 rfl rfl)
theorem dX0_is_14 : decode cX0_is 14 = .ok (.iconst 0, 1) := dk_3 (dk_at dksX0_is_0 14 rfl rfl)
theorem dX0_is_15 : decode cX0_is 15 = .ok (.ireturn, 1) := dk_172 (dk_at dksX0_is_0 15 rfl rfl)
abbrev cX0_find : ByteArray := prog_1_method_6_code
def yX0_find : MethodName := ⟨RX0, "find", "(Ljava/lang/String;[Ljava/lang/String;)I"⟩
def dkwX0_find_1 : List UInt8 := [167, 255, 235, 2, 172]
abbrev dktX0_find_1 : List UInt8 := dkwX0_find_1 ++ []
def dkwX0_find_0 : List UInt8 := [3, 61, 28, 43, 190, 162, 0, 21, 43, 28, 50, 42, 182, 0, 16, 153, 0, 5, 28, 172, 132, 2, 1]
abbrev dktX0_find_0 : List UInt8 := dkwX0_find_0 ++ dktX0_find_1
theorem dksX0_find_0 : cX0_find.data.toList.drop 0 = dktX0_find_0 := by decide +kernel
theorem dksX0_find_1 : cX0_find.data.toList.drop 23 = dktX0_find_1 := dk_seg dksX0_find_0 23 rfl rfl
theorem dX0_find_0 : decode cX0_find 0 = .ok (.iconst 0, 1) := dk_3 (dk_at dksX0_find_0 0 rfl rfl)
theorem dX0_find_1 : decode cX0_find 1 = .ok (.istore_n 2, 1) := dk_61 (dk_at dksX0_find_0 1 rfl rfl)
theorem dX0_find_2 : decode cX0_find 2 = .ok (.iload_n 2, 1) := dk_28 (dk_at dksX0_find_0 2 rfl rfl)
theorem dX0_find_3 : decode cX0_find 3 = .ok (.aload_n 1, 1) := dk_43 (dk_at dksX0_find_0 3 rfl rfl)
theorem dX0_find_4 : decode cX0_find 4 = .ok (.arraylength, 1) := dk_190 (dk_at dksX0_find_0 4 rfl rfl)
theorem dX0_find_5 : decode cX0_find 5 = .ok (.if_icmp .ge 21, 3) := dk_162 0 21 (dk_at dksX0_find_0 5 rfl rfl)
theorem dX0_find_8 : decode cX0_find 8 = .ok (.aload_n 1, 1) := dk_43 (dk_at dksX0_find_0 8 rfl rfl)
theorem dX0_find_9 : decode cX0_find 9 = .ok (.iload_n 2, 1) := dk_28 (dk_at dksX0_find_0 9 rfl rfl)
theorem dX0_find_10 : decode cX0_find 10 = .ok (.aaload, 1) := dk_50 (dk_at dksX0_find_0 10 rfl rfl)
theorem dX0_find_11 : decode cX0_find 11 = .ok (.aload_n 0, 1) := dk_42 (dk_at dksX0_find_0 11 rfl rfl)
theorem dX0_find_12 : decode cX0_find 12 = .ok (.invokevirtual 16, 3) := dk_182 0 16 (dk_at dksX0_find_0 12 rfl rfl)
theorem dX0_find_15 : decode cX0_find 15 = .ok (.ifCond .eq 5, 3) := dk_153 0 5 (dk_at dksX0_find_0 15 rfl rfl)
theorem dX0_find_18 : decode cX0_find 18 = .ok (.iload_n 2, 1) := dk_28 (dk_at dksX0_find_0 18 rfl rfl)
theorem dX0_find_19 : decode cX0_find 19 = .ok (.ireturn, 1) := dk_172 (dk_at dksX0_find_0 19 rfl rfl)
theorem dX0_find_20 : decode cX0_find 20 = .ok (.iinc 2 1, 3) := dk_132 2 1 (dk_at dksX0_find_0 20 rfl rfl)
theorem dX0_find_23 : decode cX0_find 23 = .ok (.goto (-21), 3) := dk_167 255 235 (dk_at dksX0_find_1 0 rfl rfl)
theorem dX0_find_26 : decode cX0_find 26 = .ok (.iconst (-1), 1) := dk_2 (dk_at dksX0_find_1 3 rfl rfl)
theorem dX0_find_27 : decode cX0_find 27 = .ok (.ireturn, 1) := dk_172 (dk_at dksX0_find_1 4 rfl rfl)
abbrev cX0_has : ByteArray := prog_1_method_2_code
def yX0_has : MethodName := ⟨RX0, "has", "(II)Z"⟩
def dkwX0_has_0 : List UInt8 := [26, 27, 122, 4, 126, 4, 160, 0, 7, 4, 167, 0, 4, 3, 172]
abbrev dktX0_has_0 : List UInt8 := dkwX0_has_0 ++ []
theorem dksX0_has_0 : cX0_has.data.toList.drop 0 = dktX0_has_0 := by decide +kernel
theorem dX0_has_0 : decode cX0_has 0 = .ok (.iload_n 0, 1) := dk_26 (dk_at dksX0_has_0 0 rfl rfl)
theorem dX0_has_1 : decode cX0_has 1 = .ok (.iload_n 1, 1) := dk_27 (dk_at dksX0_has_0 1 rfl rfl)
theorem dX0_has_2 : decode cX0_has 2 = .ok (.ishr, 1) := dk_122 (dk_at dksX0_has_0 2 rfl rfl)
theorem dX0_has_3 : decode cX0_has 3 = .ok (.iconst 1, 1) := dk_4 (dk_at dksX0_has_0 3 rfl rfl)
theorem dX0_has_4 : decode cX0_has 4 = .ok (.iand, 1) := dk_126 (dk_at dksX0_has_0 4 rfl rfl)
theorem dX0_has_5 : decode cX0_has 5 = .ok (.iconst 1, 1) := dk_4 (dk_at dksX0_has_0 5 rfl rfl)
theorem dX0_has_6 : decode cX0_has 6 = .ok (.if_icmp .ne 7, 3) := dk_160 0 7 (dk_at dksX0_has_0 6 rfl rfl)
theorem dX0_has_9 : decode cX0_has 9 = .ok (.iconst 1, 1) := dk_4 (dk_at dksX0_has_0 9 rfl rfl)
theorem dX0_has_10 : decode cX0_has 10 = .ok (.goto 4, 3) := dk_167 0 4 (dk_at dksX0_has_0 10 rfl rfl)
theorem dX0_has_13 : decode cX0_has 13 = .ok (.iconst 0, 1) := dk_3 (dk_at dksX0_has_0 13 rfl rfl)
theorem dX0_has_14 : decode cX0_has 14 = .ok (.ireturn, 1) := dk_172 (dk_at dksX0_has_0 14 rfl rfl)
abbrev cX0_sayings : ByteArray := prog_1_method_16_code
def yX0_sayings : MethodName := ⟨RX0, "sayings", "()I"⟩
def dkwX0_sayings_0 : List UInt8 := [42, 180, 0, 31, 180, 0, 157, 185, 0, 161, 1, 0, 172]
abbrev dktX0_sayings_0 : List UInt8 := dkwX0_sayings_0 ++ []
theorem dksX0_sayings_0 : cX0_sayings.data.toList.drop 0 = dktX0_sayings_0 := by decide +kernel
theorem dX0_sayings_0 : decode cX0_sayings 0 = .ok (.aload_n 0, 1) := dk_42 (dk_at dksX0_sayings_0 0 rfl rfl)
theorem dX0_sayings_1 : decode cX0_sayings 1 = .ok (.getfield 31, 3) := dk_180 0 31 (dk_at dksX0_sayings_0 1 rfl rfl)
theorem dX0_sayings_4 : decode cX0_sayings 4 = .ok (.getfield 157, 3) := dk_180 0 157 (dk_at dksX0_sayings_0 4 rfl rfl)
theorem dX0_sayings_7 : decode cX0_sayings 7 = .ok (.invokeinterface 161 1, 5) := by decide +kernel
theorem dX0_sayings_12 : decode cX0_sayings 12 = .ok (.ireturn, 1) := dk_172 (dk_at dksX0_sayings_0 12 rfl rfl)
abbrev cX0_fault : ByteArray := prog_1_method_14_code
def yX0_fault : MethodName := ⟨RX0, "fault", "(I)I"⟩
def dkwX0_fault_1 : List UInt8 := [172]
abbrev dktX0_fault_1 : List UInt8 := dkwX0_fault_1 ++ []
def dkwX0_fault_0 : List UInt8 := [27, 154, 0, 10, 42, 180, 0, 126, 167, 0, 16, 27, 4, 160, 0, 10, 42, 180, 0, 39, 167, 0, 4, 2]
abbrev dktX0_fault_0 : List UInt8 := dkwX0_fault_0 ++ dktX0_fault_1
theorem dksX0_fault_0 : cX0_fault.data.toList.drop 0 = dktX0_fault_0 := by decide +kernel
theorem dksX0_fault_1 : cX0_fault.data.toList.drop 24 = dktX0_fault_1 := dk_seg dksX0_fault_0 24 rfl rfl
theorem dX0_fault_0 : decode cX0_fault 0 = .ok (.iload_n 1, 1) := dk_27 (dk_at dksX0_fault_0 0 rfl rfl)
theorem dX0_fault_1 : decode cX0_fault 1 = .ok (.ifCond .ne 10, 3) := dk_154 0 10 (dk_at dksX0_fault_0 1 rfl rfl)
theorem dX0_fault_4 : decode cX0_fault 4 = .ok (.aload_n 0, 1) := dk_42 (dk_at dksX0_fault_0 4 rfl rfl)
theorem dX0_fault_5 : decode cX0_fault 5 = .ok (.getfield 126, 3) := dk_180 0 126 (dk_at dksX0_fault_0 5 rfl rfl)
theorem dX0_fault_8 : decode cX0_fault 8 = .ok (.goto 16, 3) := dk_167 0 16 (dk_at dksX0_fault_0 8 rfl rfl)
theorem dX0_fault_11 : decode cX0_fault 11 = .ok (.iload_n 1, 1) := dk_27 (dk_at dksX0_fault_0 11 rfl rfl)
theorem dX0_fault_12 : decode cX0_fault 12 = .ok (.iconst 1, 1) := dk_4 (dk_at dksX0_fault_0 12 rfl rfl)
theorem dX0_fault_13 : decode cX0_fault 13 = .ok (.if_icmp .ne 10, 3) := dk_160 0 10 (dk_at dksX0_fault_0 13 rfl rfl)
theorem dX0_fault_16 : decode cX0_fault 16 = .ok (.aload_n 0, 1) := dk_42 (dk_at dksX0_fault_0 16 rfl rfl)
theorem dX0_fault_17 : decode cX0_fault 17 = .ok (.getfield 39, 3) := dk_180 0 39 (dk_at dksX0_fault_0 17 rfl rfl)
theorem dX0_fault_20 : decode cX0_fault 20 = .ok (.goto 4, 3) := dk_167 0 4 (dk_at dksX0_fault_0 20 rfl rfl)
theorem dX0_fault_23 : decode cX0_fault 23 = .ok (.iconst (-1), 1) := dk_2 (dk_at dksX0_fault_0 23 rfl rfl)
theorem dX0_fault_24 : decode cX0_fault 24 = .ok (.ireturn, 1) := dk_172 (dk_at dksX0_fault_1 0 rfl rfl)
abbrev cX0_has_2 : ByteArray := prog_1_method_20_code
def yX0_has_2 : MethodName := ⟨RX0, "has", "(I)I"⟩
def dkwX0_has_2_6 : List UInt8 := [180, 0, 190, 172, 42, 180, 0, 151, 172, 42, 180, 0, 148, 172, 2, 172]
abbrev dktX0_has_2_6 : List UInt8 := dkwX0_has_2_6 ++ []
def dkwX0_has_2_5 : List UInt8 := [50, 21, 4, 46, 96, 61, 132, 4, 1, 167, 255, 229, 132, 3, 1, 167, 255, 212, 28, 172, 42, 180, 0, 83]
abbrev dktX0_has_2_5 : List UInt8 := dkwX0_has_2_5 ++ dktX0_has_2_6
def dkwX0_has_2_4 : List UInt8 := [162, 0, 42, 3, 54, 4, 21, 4, 42, 182, 0, 171, 162, 0, 24, 28, 42, 180, 0, 83, 180, 0, 187, 29]
abbrev dktX0_has_2_4 : List UInt8 := dkwX0_has_2_4 ++ dktX0_has_2_5
def dkwX0_has_2_3 : List UInt8 := [180, 0, 176, 172, 42, 180, 0, 83, 180, 0, 179, 184, 0, 182, 172, 3, 62, 29, 42, 182, 0, 169]
abbrev dktX0_has_2_3 : List UInt8 := dkwX0_has_2_3 ++ dktX0_has_2_4
def dkwX0_has_2_2 : List UInt8 := [42, 180, 0, 31, 180, 0, 173, 172, 42, 182, 0, 169, 172, 42, 182, 0, 171, 172, 42, 180, 0, 83]
abbrev dktX0_has_2_2 : List UInt8 := dkwX0_has_2_2 ++ dktX0_has_2_3
def dkwX0_has_2_1 : List UInt8 := [170, 0, 0, 0, 155, 0, 0, 0, 0, 0, 0, 0, 8, 0, 0, 0, 49, 0, 0, 0, 57, 0, 0, 0, 62, 0, 0, 0, 67, 0, 0, 0, 75, 0, 0, 0, 86, 0, 0, 0, 137, 0, 0, 0, 145, 0, 0, 0, 150]
abbrev dktX0_has_2_1 : List UInt8 := dkwX0_has_2_1 ++ dktX0_has_2_2
def dkwX0_has_2_0 : List UInt8 := [3, 61, 27]
abbrev dktX0_has_2_0 : List UInt8 := dkwX0_has_2_0 ++ dktX0_has_2_1
theorem dksX0_has_2_0 : cX0_has_2.data.toList.drop 0 = dktX0_has_2_0 := by decide +kernel
theorem dksX0_has_2_1 : cX0_has_2.data.toList.drop 3 = dktX0_has_2_1 := dk_seg dksX0_has_2_0 3 rfl rfl
theorem dksX0_has_2_2 : cX0_has_2.data.toList.drop 52 = dktX0_has_2_2 := dk_seg dksX0_has_2_1 49 rfl rfl
theorem dksX0_has_2_3 : cX0_has_2.data.toList.drop 74 = dktX0_has_2_3 := dk_seg dksX0_has_2_2 22 rfl rfl
theorem dksX0_has_2_4 : cX0_has_2.data.toList.drop 96 = dktX0_has_2_4 := dk_seg dksX0_has_2_3 22 rfl rfl
theorem dksX0_has_2_5 : cX0_has_2.data.toList.drop 120 = dktX0_has_2_5 := dk_seg dksX0_has_2_4 24 rfl rfl
theorem dksX0_has_2_6 : cX0_has_2.data.toList.drop 144 = dktX0_has_2_6 := dk_seg dksX0_has_2_5 24 rfl rfl
theorem dX0_has_2_0 : decode cX0_has_2 0 = .ok (.iconst 0, 1) := dk_3 (dk_at dksX0_has_2_0 0 rfl rfl)
theorem dX0_has_2_1 : decode cX0_has_2 1 = .ok (.istore_n 2, 1) := dk_61 (dk_at dksX0_has_2_0 1 rfl rfl)
theorem dX0_has_2_2 : decode cX0_has_2 2 = .ok (.iload_n 1, 1) := dk_27 (dk_at dksX0_has_2_0 2 rfl rfl)
theorem dX0_has_2_3 : decode cX0_has_2 3 = .ok (.tableswitch 155 0 8 #[49, 57, 62, 67, 75, 86, 137, 145, 150], 49) := by decide +kernel
theorem dX0_has_2_52 : decode cX0_has_2 52 = .ok (.aload_n 0, 1) := dk_42 (dk_at dksX0_has_2_2 0 rfl rfl)
theorem dX0_has_2_53 : decode cX0_has_2 53 = .ok (.getfield 31, 3) := dk_180 0 31 (dk_at dksX0_has_2_2 1 rfl rfl)
theorem dX0_has_2_56 : decode cX0_has_2 56 = .ok (.getfield 173, 3) := dk_180 0 173 (dk_at dksX0_has_2_2 4 rfl rfl)
theorem dX0_has_2_59 : decode cX0_has_2 59 = .ok (.ireturn, 1) := dk_172 (dk_at dksX0_has_2_2 7 rfl rfl)
theorem dX0_has_2_60 : decode cX0_has_2 60 = .ok (.aload_n 0, 1) := dk_42 (dk_at dksX0_has_2_2 8 rfl rfl)
theorem dX0_has_2_61 : decode cX0_has_2 61 = .ok (.invokevirtual 169, 3) := dk_182 0 169 (dk_at dksX0_has_2_2 9 rfl rfl)
theorem dX0_has_2_64 : decode cX0_has_2 64 = .ok (.ireturn, 1) := dk_172 (dk_at dksX0_has_2_2 12 rfl rfl)
theorem dX0_has_2_65 : decode cX0_has_2 65 = .ok (.aload_n 0, 1) := dk_42 (dk_at dksX0_has_2_2 13 rfl rfl)
theorem dX0_has_2_66 : decode cX0_has_2 66 = .ok (.invokevirtual 171, 3) := dk_182 0 171 (dk_at dksX0_has_2_2 14 rfl rfl)
theorem dX0_has_2_69 : decode cX0_has_2 69 = .ok (.ireturn, 1) := dk_172 (dk_at dksX0_has_2_2 17 rfl rfl)
theorem dX0_has_2_70 : decode cX0_has_2 70 = .ok (.aload_n 0, 1) := dk_42 (dk_at dksX0_has_2_2 18 rfl rfl)
theorem dX0_has_2_71 : decode cX0_has_2 71 = .ok (.getfield 83, 3) := dk_180 0 83 (dk_at dksX0_has_2_2 19 rfl rfl)
theorem dX0_has_2_74 : decode cX0_has_2 74 = .ok (.getfield 176, 3) := dk_180 0 176 (dk_at dksX0_has_2_3 0 rfl rfl)
theorem dX0_has_2_77 : decode cX0_has_2 77 = .ok (.ireturn, 1) := dk_172 (dk_at dksX0_has_2_3 3 rfl rfl)
theorem dX0_has_2_78 : decode cX0_has_2 78 = .ok (.aload_n 0, 1) := dk_42 (dk_at dksX0_has_2_3 4 rfl rfl)
theorem dX0_has_2_79 : decode cX0_has_2 79 = .ok (.getfield 83, 3) := dk_180 0 83 (dk_at dksX0_has_2_3 5 rfl rfl)
theorem dX0_has_2_82 : decode cX0_has_2 82 = .ok (.getfield 179, 3) := dk_180 0 179 (dk_at dksX0_has_2_3 8 rfl rfl)
theorem dX0_has_2_85 : decode cX0_has_2 85 = .ok (.invokestatic 182, 3) := dk_184 0 182 (dk_at dksX0_has_2_3 11 rfl rfl)
theorem dX0_has_2_88 : decode cX0_has_2 88 = .ok (.ireturn, 1) := dk_172 (dk_at dksX0_has_2_3 14 rfl rfl)
theorem dX0_has_2_89 : decode cX0_has_2 89 = .ok (.iconst 0, 1) := dk_3 (dk_at dksX0_has_2_3 15 rfl rfl)
theorem dX0_has_2_90 : decode cX0_has_2 90 = .ok (.istore_n 3, 1) := dk_62 (dk_at dksX0_has_2_3 16 rfl rfl)
theorem dX0_has_2_91 : decode cX0_has_2 91 = .ok (.iload_n 3, 1) := dk_29 (dk_at dksX0_has_2_3 17 rfl rfl)
theorem dX0_has_2_92 : decode cX0_has_2 92 = .ok (.aload_n 0, 1) := dk_42 (dk_at dksX0_has_2_3 18 rfl rfl)
theorem dX0_has_2_93 : decode cX0_has_2 93 = .ok (.invokevirtual 169, 3) := dk_182 0 169 (dk_at dksX0_has_2_3 19 rfl rfl)
theorem dX0_has_2_96 : decode cX0_has_2 96 = .ok (.if_icmp .ge 42, 3) := dk_162 0 42 (dk_at dksX0_has_2_4 0 rfl rfl)
theorem dX0_has_2_99 : decode cX0_has_2 99 = .ok (.iconst 0, 1) := dk_3 (dk_at dksX0_has_2_4 3 rfl rfl)
theorem dX0_has_2_100 : decode cX0_has_2 100 = .ok (.istore 4, 2) := dk_54 4 (dk_at dksX0_has_2_4 4 rfl rfl)
theorem dX0_has_2_102 : decode cX0_has_2 102 = .ok (.iload 4, 2) := dk_21 4 (dk_at dksX0_has_2_4 6 rfl rfl)
theorem dX0_has_2_104 : decode cX0_has_2 104 = .ok (.aload_n 0, 1) := dk_42 (dk_at dksX0_has_2_4 8 rfl rfl)
theorem dX0_has_2_105 : decode cX0_has_2 105 = .ok (.invokevirtual 171, 3) := dk_182 0 171 (dk_at dksX0_has_2_4 9 rfl rfl)
theorem dX0_has_2_108 : decode cX0_has_2 108 = .ok (.if_icmp .ge 24, 3) := dk_162 0 24 (dk_at dksX0_has_2_4 12 rfl rfl)
theorem dX0_has_2_111 : decode cX0_has_2 111 = .ok (.iload_n 2, 1) := dk_28 (dk_at dksX0_has_2_4 15 rfl rfl)
theorem dX0_has_2_112 : decode cX0_has_2 112 = .ok (.aload_n 0, 1) := dk_42 (dk_at dksX0_has_2_4 16 rfl rfl)
theorem dX0_has_2_113 : decode cX0_has_2 113 = .ok (.getfield 83, 3) := dk_180 0 83 (dk_at dksX0_has_2_4 17 rfl rfl)
theorem dX0_has_2_116 : decode cX0_has_2 116 = .ok (.getfield 187, 3) := dk_180 0 187 (dk_at dksX0_has_2_4 20 rfl rfl)
theorem dX0_has_2_119 : decode cX0_has_2 119 = .ok (.iload_n 3, 1) := dk_29 (dk_at dksX0_has_2_4 23 rfl rfl)
theorem dX0_has_2_120 : decode cX0_has_2 120 = .ok (.aaload, 1) := dk_50 (dk_at dksX0_has_2_5 0 rfl rfl)
theorem dX0_has_2_121 : decode cX0_has_2 121 = .ok (.iload 4, 2) := dk_21 4 (dk_at dksX0_has_2_5 1 rfl rfl)
theorem dX0_has_2_123 : decode cX0_has_2 123 = .ok (.iaload, 1) := dk_46 (dk_at dksX0_has_2_5 3 rfl rfl)
theorem dX0_has_2_124 : decode cX0_has_2 124 = .ok (.iadd, 1) := dk_96 (dk_at dksX0_has_2_5 4 rfl rfl)
theorem dX0_has_2_125 : decode cX0_has_2 125 = .ok (.istore_n 2, 1) := dk_61 (dk_at dksX0_has_2_5 5 rfl rfl)
theorem dX0_has_2_126 : decode cX0_has_2 126 = .ok (.iinc 4 1, 3) := dk_132 4 1 (dk_at dksX0_has_2_5 6 rfl rfl)
theorem dX0_has_2_129 : decode cX0_has_2 129 = .ok (.goto (-27), 3) := dk_167 255 229 (dk_at dksX0_has_2_5 9 rfl rfl)
theorem dX0_has_2_132 : decode cX0_has_2 132 = .ok (.iinc 3 1, 3) := dk_132 3 1 (dk_at dksX0_has_2_5 12 rfl rfl)
theorem dX0_has_2_135 : decode cX0_has_2 135 = .ok (.goto (-44), 3) := dk_167 255 212 (dk_at dksX0_has_2_5 15 rfl rfl)
theorem dX0_has_2_138 : decode cX0_has_2 138 = .ok (.iload_n 2, 1) := dk_28 (dk_at dksX0_has_2_5 18 rfl rfl)
theorem dX0_has_2_139 : decode cX0_has_2 139 = .ok (.ireturn, 1) := dk_172 (dk_at dksX0_has_2_5 19 rfl rfl)
theorem dX0_has_2_140 : decode cX0_has_2 140 = .ok (.aload_n 0, 1) := dk_42 (dk_at dksX0_has_2_5 20 rfl rfl)
theorem dX0_has_2_141 : decode cX0_has_2 141 = .ok (.getfield 83, 3) := dk_180 0 83 (dk_at dksX0_has_2_5 21 rfl rfl)
theorem dX0_has_2_144 : decode cX0_has_2 144 = .ok (.getfield 190, 3) := dk_180 0 190 (dk_at dksX0_has_2_6 0 rfl rfl)
theorem dX0_has_2_147 : decode cX0_has_2 147 = .ok (.ireturn, 1) := dk_172 (dk_at dksX0_has_2_6 3 rfl rfl)
theorem dX0_has_2_148 : decode cX0_has_2 148 = .ok (.aload_n 0, 1) := dk_42 (dk_at dksX0_has_2_6 4 rfl rfl)
theorem dX0_has_2_149 : decode cX0_has_2 149 = .ok (.getfield 151, 3) := dk_180 0 151 (dk_at dksX0_has_2_6 5 rfl rfl)
theorem dX0_has_2_152 : decode cX0_has_2 152 = .ok (.ireturn, 1) := dk_172 (dk_at dksX0_has_2_6 8 rfl rfl)
theorem dX0_has_2_153 : decode cX0_has_2 153 = .ok (.aload_n 0, 1) := dk_42 (dk_at dksX0_has_2_6 9 rfl rfl)
theorem dX0_has_2_154 : decode cX0_has_2 154 = .ok (.getfield 148, 3) := dk_180 0 148 (dk_at dksX0_has_2_6 10 rfl rfl)
theorem dX0_has_2_157 : decode cX0_has_2 157 = .ok (.ireturn, 1) := dk_172 (dk_at dksX0_has_2_6 13 rfl rfl)
theorem dX0_has_2_158 : decode cX0_has_2 158 = .ok (.iconst (-1), 1) := dk_2 (dk_at dksX0_has_2_6 14 rfl rfl)
theorem dX0_has_2_159 : decode cX0_has_2 159 = .ok (.ireturn, 1) := dk_172 (dk_at dksX0_has_2_6 15 rfl rfl)
abbrev cX0_verbs : ByteArray := prog_1_method_17_code
def yX0_verbs : MethodName := ⟨RX0, "verbs", "()I"⟩
def dkwX0_verbs_0 : List UInt8 := [42, 180, 0, 31, 180, 0, 166, 185, 0, 161, 1, 0, 172]
abbrev dktX0_verbs_0 : List UInt8 := dkwX0_verbs_0 ++ []
theorem dksX0_verbs_0 : cX0_verbs.data.toList.drop 0 = dktX0_verbs_0 := by decide +kernel
theorem dX0_verbs_0 : decode cX0_verbs 0 = .ok (.aload_n 0, 1) := dk_42 (dk_at dksX0_verbs_0 0 rfl rfl)
theorem dX0_verbs_1 : decode cX0_verbs 1 = .ok (.getfield 31, 3) := dk_180 0 31 (dk_at dksX0_verbs_0 1 rfl rfl)
theorem dX0_verbs_4 : decode cX0_verbs 4 = .ok (.getfield 166, 3) := dk_180 0 166 (dk_at dksX0_verbs_0 4 rfl rfl)
theorem dX0_verbs_7 : decode cX0_verbs 7 = .ok (.invokeinterface 161 1, 5) := by decide +kernel
theorem dX0_verbs_12 : decode cX0_verbs 12 = .ok (.ireturn, 1) := dk_172 (dk_at dksX0_verbs_0 12 rfl rfl)
abbrev cX0_letter : ByteArray := prog_1_method_21_code
def yX0_letter : MethodName := ⟨RX0, "letter", "(III)I"⟩
def dkwX0_letter_3 : List UInt8 := [182, 0, 203, 167, 0, 4, 2, 172]
abbrev dktX0_letter_3 : List UInt8 := dkwX0_letter_3 ++ []
def dkwX0_letter_2 : List UInt8 := [25, 4, 185, 0, 161, 1, 0, 162, 0, 21, 25, 4, 28, 185, 0, 197, 2, 0, 192, 0, 201, 29]
abbrev dktX0_letter_2 : List UInt8 := dkwX0_letter_2 ++ dktX0_letter_3
def dkwX0_letter_1 : List UInt8 := [27, 154, 0, 13, 42, 180, 0, 31, 180, 0, 157, 167, 0, 10, 42, 180, 0, 31, 180, 0, 166, 58, 4, 28]
abbrev dktX0_letter_1 : List UInt8 := dkwX0_letter_1 ++ dktX0_letter_2
def dkwX0_letter_0 : List UInt8 := [29, 3, 8, 184, 0, 193, 153, 0, 16, 27, 3, 4, 184, 0, 193, 153, 0, 7, 28, 156, 0, 5, 2, 172]
abbrev dktX0_letter_0 : List UInt8 := dkwX0_letter_0 ++ dktX0_letter_1
theorem dksX0_letter_0 : cX0_letter.data.toList.drop 0 = dktX0_letter_0 := by decide +kernel
theorem dksX0_letter_1 : cX0_letter.data.toList.drop 24 = dktX0_letter_1 := dk_seg dksX0_letter_0 24 rfl rfl
theorem dksX0_letter_2 : cX0_letter.data.toList.drop 48 = dktX0_letter_2 := dk_seg dksX0_letter_1 24 rfl rfl
theorem dksX0_letter_3 : cX0_letter.data.toList.drop 70 = dktX0_letter_3 := dk_seg dksX0_letter_2 22 rfl rfl
theorem dX0_letter_0 : decode cX0_letter 0 = .ok (.iload_n 3, 1) := dk_29 (dk_at dksX0_letter_0 0 rfl rfl)
theorem dX0_letter_1 : decode cX0_letter 1 = .ok (.iconst 0, 1) := dk_3 (dk_at dksX0_letter_0 1 rfl rfl)
theorem dX0_letter_2 : decode cX0_letter 2 = .ok (.iconst 5, 1) := dk_8 (dk_at dksX0_letter_0 2 rfl rfl)
theorem dX0_letter_3 : decode cX0_letter 3 = .ok (.invokestatic 193, 3) := dk_184 0 193 (dk_at dksX0_letter_0 3 rfl rfl)
theorem dX0_letter_6 : decode cX0_letter 6 = .ok (.ifCond .eq 16, 3) := dk_153 0 16 (dk_at dksX0_letter_0 6 rfl rfl)
theorem dX0_letter_9 : decode cX0_letter 9 = .ok (.iload_n 1, 1) := dk_27 (dk_at dksX0_letter_0 9 rfl rfl)
theorem dX0_letter_10 : decode cX0_letter 10 = .ok (.iconst 0, 1) := dk_3 (dk_at dksX0_letter_0 10 rfl rfl)
theorem dX0_letter_11 : decode cX0_letter 11 = .ok (.iconst 1, 1) := dk_4 (dk_at dksX0_letter_0 11 rfl rfl)
theorem dX0_letter_12 : decode cX0_letter 12 = .ok (.invokestatic 193, 3) := dk_184 0 193 (dk_at dksX0_letter_0 12 rfl rfl)
theorem dX0_letter_15 : decode cX0_letter 15 = .ok (.ifCond .eq 7, 3) := dk_153 0 7 (dk_at dksX0_letter_0 15 rfl rfl)
theorem dX0_letter_18 : decode cX0_letter 18 = .ok (.iload_n 2, 1) := dk_28 (dk_at dksX0_letter_0 18 rfl rfl)
theorem dX0_letter_19 : decode cX0_letter 19 = .ok (.ifCond .ge 5, 3) := dk_156 0 5 (dk_at dksX0_letter_0 19 rfl rfl)
theorem dX0_letter_22 : decode cX0_letter 22 = .ok (.iconst (-1), 1) := dk_2 (dk_at dksX0_letter_0 22 rfl rfl)
theorem dX0_letter_23 : decode cX0_letter 23 = .ok (.ireturn, 1) := dk_172 (dk_at dksX0_letter_0 23 rfl rfl)
theorem dX0_letter_24 : decode cX0_letter 24 = .ok (.iload_n 1, 1) := dk_27 (dk_at dksX0_letter_1 0 rfl rfl)
theorem dX0_letter_25 : decode cX0_letter 25 = .ok (.ifCond .ne 13, 3) := dk_154 0 13 (dk_at dksX0_letter_1 1 rfl rfl)
theorem dX0_letter_28 : decode cX0_letter 28 = .ok (.aload_n 0, 1) := dk_42 (dk_at dksX0_letter_1 4 rfl rfl)
theorem dX0_letter_29 : decode cX0_letter 29 = .ok (.getfield 31, 3) := dk_180 0 31 (dk_at dksX0_letter_1 5 rfl rfl)
theorem dX0_letter_32 : decode cX0_letter 32 = .ok (.getfield 157, 3) := dk_180 0 157 (dk_at dksX0_letter_1 8 rfl rfl)
theorem dX0_letter_35 : decode cX0_letter 35 = .ok (.goto 10, 3) := dk_167 0 10 (dk_at dksX0_letter_1 11 rfl rfl)
theorem dX0_letter_38 : decode cX0_letter 38 = .ok (.aload_n 0, 1) := dk_42 (dk_at dksX0_letter_1 14 rfl rfl)
theorem dX0_letter_39 : decode cX0_letter 39 = .ok (.getfield 31, 3) := dk_180 0 31 (dk_at dksX0_letter_1 15 rfl rfl)
theorem dX0_letter_42 : decode cX0_letter 42 = .ok (.getfield 166, 3) := dk_180 0 166 (dk_at dksX0_letter_1 18 rfl rfl)
theorem dX0_letter_45 : decode cX0_letter 45 = .ok (.astore 4, 2) := dk_58 4 (dk_at dksX0_letter_1 21 rfl rfl)
theorem dX0_letter_47 : decode cX0_letter 47 = .ok (.iload_n 2, 1) := dk_28 (dk_at dksX0_letter_1 23 rfl rfl)
theorem dX0_letter_48 : decode cX0_letter 48 = .ok (.aload 4, 2) := dk_25 4 (dk_at dksX0_letter_2 0 rfl rfl)
theorem dX0_letter_50 : decode cX0_letter 50 = .ok (.invokeinterface 161 1, 5) := by decide +kernel
theorem dX0_letter_55 : decode cX0_letter 55 = .ok (.if_icmp .ge 21, 3) := dk_162 0 21 (dk_at dksX0_letter_2 7 rfl rfl)
theorem dX0_letter_58 : decode cX0_letter 58 = .ok (.aload 4, 2) := dk_25 4 (dk_at dksX0_letter_2 10 rfl rfl)
theorem dX0_letter_60 : decode cX0_letter 60 = .ok (.iload_n 2, 1) := dk_28 (dk_at dksX0_letter_2 12 rfl rfl)
theorem dX0_letter_61 : decode cX0_letter 61 = .ok (.invokeinterface 197 2, 5) := by decide +kernel
theorem dX0_letter_66 : decode cX0_letter 66 = .ok (.checkcast 201, 3) := dk_192 0 201 (dk_at dksX0_letter_2 18 rfl rfl)
theorem dX0_letter_69 : decode cX0_letter 69 = .ok (.iload_n 3, 1) := dk_29 (dk_at dksX0_letter_2 21 rfl rfl)
theorem dX0_letter_70 : decode cX0_letter 70 = .ok (.invokevirtual 203, 3) := dk_182 0 203 (dk_at dksX0_letter_3 0 rfl rfl)
theorem dX0_letter_73 : decode cX0_letter 73 = .ok (.goto 4, 3) := dk_167 0 4 (dk_at dksX0_letter_3 3 rfl rfl)
theorem dX0_letter_76 : decode cX0_letter 76 = .ok (.iconst (-1), 1) := dk_2 (dk_at dksX0_letter_3 6 rfl rfl)
theorem dX0_letter_77 : decode cX0_letter 77 = .ok (.ireturn, 1) := dk_172 (dk_at dksX0_letter_3 7 rfl rfl)
abbrev cX0_saying : ByteArray := prog_1_method_23_code
def yX0_saying : MethodName := ⟨RX0, "saying", "(II)I"⟩
def dkwX0_saying_4 : List UInt8 := [182, 0, 235, 27, 184, 0, 238, 153, 0, 7, 4, 167, 0, 4, 3, 172, 2, 172]
abbrev dktX0_saying_4 : List UInt8 := dkwX0_saying_4 ++ []
def dkwX0_saying_3 : List UInt8 := [180, 0, 226, 27, 46, 172, 42, 27, 182, 0, 229, 172, 42, 180, 0, 69, 42, 180, 0, 83, 182, 0, 232]
abbrev dktX0_saying_3 : List UInt8 := dkwX0_saying_3 ++ dktX0_saying_4
def dkwX0_saying_2 : List UInt8 := [42, 180, 0, 83, 180, 0, 220, 27, 46, 172, 42, 180, 0, 83, 180, 0, 223, 27, 46, 172, 42, 180, 0, 83]
abbrev dktX0_saying_2 : List UInt8 := dkwX0_saying_2 ++ dktX0_saying_3
def dkwX0_saying_1 : List UInt8 := [170, 0, 0, 0, 96, 0, 0, 0, 0, 0, 0, 0, 4, 0, 0, 0, 33, 0, 0, 0, 43, 0, 0, 0, 53, 0, 0, 0, 63, 0, 0, 0, 69]
abbrev dktX0_saying_1 : List UInt8 := dkwX0_saying_1 ++ dktX0_saying_2
def dkwX0_saying_0 : List UInt8 := [42, 27, 182, 0, 216, 154, 0, 5, 2, 172, 28]
abbrev dktX0_saying_0 : List UInt8 := dkwX0_saying_0 ++ dktX0_saying_1
theorem dksX0_saying_0 : cX0_saying.data.toList.drop 0 = dktX0_saying_0 := by decide +kernel
theorem dksX0_saying_1 : cX0_saying.data.toList.drop 11 = dktX0_saying_1 := dk_seg dksX0_saying_0 11 rfl rfl
theorem dksX0_saying_2 : cX0_saying.data.toList.drop 44 = dktX0_saying_2 := dk_seg dksX0_saying_1 33 rfl rfl
theorem dksX0_saying_3 : cX0_saying.data.toList.drop 68 = dktX0_saying_3 := dk_seg dksX0_saying_2 24 rfl rfl
theorem dksX0_saying_4 : cX0_saying.data.toList.drop 91 = dktX0_saying_4 := dk_seg dksX0_saying_3 23 rfl rfl
theorem dX0_saying_0 : decode cX0_saying 0 = .ok (.aload_n 0, 1) := dk_42 (dk_at dksX0_saying_0 0 rfl rfl)
theorem dX0_saying_1 : decode cX0_saying 1 = .ok (.iload_n 1, 1) := dk_27 (dk_at dksX0_saying_0 1 rfl rfl)
theorem dX0_saying_2 : decode cX0_saying 2 = .ok (.invokevirtual 216, 3) := dk_182 0 216 (dk_at dksX0_saying_0 2 rfl rfl)
theorem dX0_saying_5 : decode cX0_saying 5 = .ok (.ifCond .ne 5, 3) := dk_154 0 5 (dk_at dksX0_saying_0 5 rfl rfl)
theorem dX0_saying_8 : decode cX0_saying 8 = .ok (.iconst (-1), 1) := dk_2 (dk_at dksX0_saying_0 8 rfl rfl)
theorem dX0_saying_9 : decode cX0_saying 9 = .ok (.ireturn, 1) := dk_172 (dk_at dksX0_saying_0 9 rfl rfl)
theorem dX0_saying_10 : decode cX0_saying 10 = .ok (.iload_n 2, 1) := dk_28 (dk_at dksX0_saying_0 10 rfl rfl)
theorem dX0_saying_11 : decode cX0_saying 11 = .ok (.tableswitch 96 0 4 #[33, 43, 53, 63, 69], 33) := by decide +kernel
theorem dX0_saying_44 : decode cX0_saying 44 = .ok (.aload_n 0, 1) := dk_42 (dk_at dksX0_saying_2 0 rfl rfl)
theorem dX0_saying_45 : decode cX0_saying 45 = .ok (.getfield 83, 3) := dk_180 0 83 (dk_at dksX0_saying_2 1 rfl rfl)
theorem dX0_saying_48 : decode cX0_saying 48 = .ok (.getfield 220, 3) := dk_180 0 220 (dk_at dksX0_saying_2 4 rfl rfl)
theorem dX0_saying_51 : decode cX0_saying 51 = .ok (.iload_n 1, 1) := dk_27 (dk_at dksX0_saying_2 7 rfl rfl)
theorem dX0_saying_52 : decode cX0_saying 52 = .ok (.iaload, 1) := dk_46 (dk_at dksX0_saying_2 8 rfl rfl)
theorem dX0_saying_53 : decode cX0_saying 53 = .ok (.ireturn, 1) := dk_172 (dk_at dksX0_saying_2 9 rfl rfl)
theorem dX0_saying_54 : decode cX0_saying 54 = .ok (.aload_n 0, 1) := dk_42 (dk_at dksX0_saying_2 10 rfl rfl)
theorem dX0_saying_55 : decode cX0_saying 55 = .ok (.getfield 83, 3) := dk_180 0 83 (dk_at dksX0_saying_2 11 rfl rfl)
theorem dX0_saying_58 : decode cX0_saying 58 = .ok (.getfield 223, 3) := dk_180 0 223 (dk_at dksX0_saying_2 14 rfl rfl)
theorem dX0_saying_61 : decode cX0_saying 61 = .ok (.iload_n 1, 1) := dk_27 (dk_at dksX0_saying_2 17 rfl rfl)
theorem dX0_saying_62 : decode cX0_saying 62 = .ok (.iaload, 1) := dk_46 (dk_at dksX0_saying_2 18 rfl rfl)
theorem dX0_saying_63 : decode cX0_saying 63 = .ok (.ireturn, 1) := dk_172 (dk_at dksX0_saying_2 19 rfl rfl)
theorem dX0_saying_64 : decode cX0_saying 64 = .ok (.aload_n 0, 1) := dk_42 (dk_at dksX0_saying_2 20 rfl rfl)
theorem dX0_saying_65 : decode cX0_saying 65 = .ok (.getfield 83, 3) := dk_180 0 83 (dk_at dksX0_saying_2 21 rfl rfl)
theorem dX0_saying_68 : decode cX0_saying 68 = .ok (.getfield 226, 3) := dk_180 0 226 (dk_at dksX0_saying_3 0 rfl rfl)
theorem dX0_saying_71 : decode cX0_saying 71 = .ok (.iload_n 1, 1) := dk_27 (dk_at dksX0_saying_3 3 rfl rfl)
theorem dX0_saying_72 : decode cX0_saying 72 = .ok (.iaload, 1) := dk_46 (dk_at dksX0_saying_3 4 rfl rfl)
theorem dX0_saying_73 : decode cX0_saying 73 = .ok (.ireturn, 1) := dk_172 (dk_at dksX0_saying_3 5 rfl rfl)
theorem dX0_saying_74 : decode cX0_saying 74 = .ok (.aload_n 0, 1) := dk_42 (dk_at dksX0_saying_3 6 rfl rfl)
theorem dX0_saying_75 : decode cX0_saying 75 = .ok (.iload_n 1, 1) := dk_27 (dk_at dksX0_saying_3 7 rfl rfl)
theorem dX0_saying_76 : decode cX0_saying 76 = .ok (.invokevirtual 229, 3) := dk_182 0 229 (dk_at dksX0_saying_3 8 rfl rfl)
theorem dX0_saying_79 : decode cX0_saying 79 = .ok (.ireturn, 1) := dk_172 (dk_at dksX0_saying_3 11 rfl rfl)
theorem dX0_saying_80 : decode cX0_saying 80 = .ok (.aload_n 0, 1) := dk_42 (dk_at dksX0_saying_3 12 rfl rfl)
theorem dX0_saying_81 : decode cX0_saying 81 = .ok (.getfield 69, 3) := dk_180 0 69 (dk_at dksX0_saying_3 13 rfl rfl)
theorem dX0_saying_84 : decode cX0_saying 84 = .ok (.aload_n 0, 1) := dk_42 (dk_at dksX0_saying_3 16 rfl rfl)
theorem dX0_saying_85 : decode cX0_saying 85 = .ok (.getfield 83, 3) := dk_180 0 83 (dk_at dksX0_saying_3 17 rfl rfl)
theorem dX0_saying_88 : decode cX0_saying 88 = .ok (.invokevirtual 232, 3) := dk_182 0 232 (dk_at dksX0_saying_3 20 rfl rfl)
theorem dX0_saying_91 : decode cX0_saying 91 = .ok (.invokevirtual 235, 3) := dk_182 0 235 (dk_at dksX0_saying_4 0 rfl rfl)
theorem dX0_saying_94 : decode cX0_saying 94 = .ok (.iload_n 1, 1) := dk_27 (dk_at dksX0_saying_4 3 rfl rfl)
theorem dX0_saying_95 : decode cX0_saying 95 = .ok (.invokestatic 238, 3) := dk_184 0 238 (dk_at dksX0_saying_4 4 rfl rfl)
theorem dX0_saying_98 : decode cX0_saying 98 = .ok (.ifCond .eq 7, 3) := dk_153 0 7 (dk_at dksX0_saying_4 7 rfl rfl)
theorem dX0_saying_101 : decode cX0_saying 101 = .ok (.iconst 1, 1) := dk_4 (dk_at dksX0_saying_4 10 rfl rfl)
theorem dX0_saying_102 : decode cX0_saying 102 = .ok (.goto 4, 3) := dk_167 0 4 (dk_at dksX0_saying_4 11 rfl rfl)
theorem dX0_saying_105 : decode cX0_saying 105 = .ok (.iconst 0, 1) := dk_3 (dk_at dksX0_saying_4 14 rfl rfl)
theorem dX0_saying_106 : decode cX0_saying 106 = .ok (.ireturn, 1) := dk_172 (dk_at dksX0_saying_4 15 rfl rfl)
theorem dX0_saying_107 : decode cX0_saying 107 = .ok (.iconst (-1), 1) := dk_2 (dk_at dksX0_saying_4 16 rfl rfl)
theorem dX0_saying_108 : decode cX0_saying 108 = .ok (.ireturn, 1) := dk_172 (dk_at dksX0_saying_4 17 rfl rfl)
abbrev cX0_isSaying : ByteArray := prog_1_method_18_code
def yX0_isSaying : MethodName := ⟨RX0, "isSaying", "(I)Z"⟩
def dkwX0_isSaying_0 : List UInt8 := [27, 155, 0, 15, 27, 42, 182, 0, 169, 162, 0, 7, 4, 167, 0, 4, 3, 172]
abbrev dktX0_isSaying_0 : List UInt8 := dkwX0_isSaying_0 ++ []
theorem dksX0_isSaying_0 : cX0_isSaying.data.toList.drop 0 = dktX0_isSaying_0 := by decide +kernel
theorem dX0_isSaying_0 : decode cX0_isSaying 0 = .ok (.iload_n 1, 1) := dk_27 (dk_at dksX0_isSaying_0 0 rfl rfl)
theorem dX0_isSaying_1 : decode cX0_isSaying 1 = .ok (.ifCond .lt 15, 3) := dk_155 0 15 (dk_at dksX0_isSaying_0 1 rfl rfl)
theorem dX0_isSaying_4 : decode cX0_isSaying 4 = .ok (.iload_n 1, 1) := dk_27 (dk_at dksX0_isSaying_0 4 rfl rfl)
theorem dX0_isSaying_5 : decode cX0_isSaying 5 = .ok (.aload_n 0, 1) := dk_42 (dk_at dksX0_isSaying_0 5 rfl rfl)
theorem dX0_isSaying_6 : decode cX0_isSaying 6 = .ok (.invokevirtual 169, 3) := dk_182 0 169 (dk_at dksX0_isSaying_0 6 rfl rfl)
theorem dX0_isSaying_9 : decode cX0_isSaying 9 = .ok (.if_icmp .ge 7, 3) := dk_162 0 7 (dk_at dksX0_isSaying_0 9 rfl rfl)
theorem dX0_isSaying_12 : decode cX0_isSaying 12 = .ok (.iconst 1, 1) := dk_4 (dk_at dksX0_isSaying_0 12 rfl rfl)
theorem dX0_isSaying_13 : decode cX0_isSaying 13 = .ok (.goto 4, 3) := dk_167 0 4 (dk_at dksX0_isSaying_0 13 rfl rfl)
theorem dX0_isSaying_16 : decode cX0_isSaying 16 = .ok (.iconst 0, 1) := dk_3 (dk_at dksX0_isSaying_0 16 rfl rfl)
theorem dX0_isSaying_17 : decode cX0_isSaying 17 = .ok (.ireturn, 1) := dk_172 (dk_at dksX0_isSaying_0 17 rfl rfl)
abbrev cX0_gets : ByteArray := prog_1_method_22_code
def yX0_gets : MethodName := ⟨RX0, "gets", "(I)I"⟩
def dkwX0_gets_1 : List UInt8 := [27, 46, 167, 0, 4, 2, 172]
abbrev dktX0_gets_1 : List UInt8 := dkwX0_gets_1 ++ []
def dkwX0_gets_0 : List UInt8 := [42, 180, 0, 76, 42, 180, 0, 83, 182, 0, 206, 180, 0, 210, 153, 0, 15, 42, 180, 0, 76, 180, 0, 213]
abbrev dktX0_gets_0 : List UInt8 := dkwX0_gets_0 ++ dktX0_gets_1
theorem dksX0_gets_0 : cX0_gets.data.toList.drop 0 = dktX0_gets_0 := by decide +kernel
theorem dksX0_gets_1 : cX0_gets.data.toList.drop 24 = dktX0_gets_1 := dk_seg dksX0_gets_0 24 rfl rfl
theorem dX0_gets_0 : decode cX0_gets 0 = .ok (.aload_n 0, 1) := dk_42 (dk_at dksX0_gets_0 0 rfl rfl)
theorem dX0_gets_1 : decode cX0_gets 1 = .ok (.getfield 76, 3) := dk_180 0 76 (dk_at dksX0_gets_0 1 rfl rfl)
theorem dX0_gets_4 : decode cX0_gets 4 = .ok (.aload_n 0, 1) := dk_42 (dk_at dksX0_gets_0 4 rfl rfl)
theorem dX0_gets_5 : decode cX0_gets 5 = .ok (.getfield 83, 3) := dk_180 0 83 (dk_at dksX0_gets_0 5 rfl rfl)
theorem dX0_gets_8 : decode cX0_gets 8 = .ok (.invokevirtual 206, 3) := dk_182 0 206 (dk_at dksX0_gets_0 8 rfl rfl)
theorem dX0_gets_11 : decode cX0_gets 11 = .ok (.getfield 210, 3) := dk_180 0 210 (dk_at dksX0_gets_0 11 rfl rfl)
theorem dX0_gets_14 : decode cX0_gets 14 = .ok (.ifCond .eq 15, 3) := dk_153 0 15 (dk_at dksX0_gets_0 14 rfl rfl)
theorem dX0_gets_17 : decode cX0_gets 17 = .ok (.aload_n 0, 1) := dk_42 (dk_at dksX0_gets_0 17 rfl rfl)
theorem dX0_gets_18 : decode cX0_gets 18 = .ok (.getfield 76, 3) := dk_180 0 76 (dk_at dksX0_gets_0 18 rfl rfl)
theorem dX0_gets_21 : decode cX0_gets 21 = .ok (.getfield 213, 3) := dk_180 0 213 (dk_at dksX0_gets_0 21 rfl rfl)
theorem dX0_gets_24 : decode cX0_gets 24 = .ok (.iload_n 1, 1) := dk_27 (dk_at dksX0_gets_1 0 rfl rfl)
theorem dX0_gets_25 : decode cX0_gets 25 = .ok (.iaload, 1) := dk_46 (dk_at dksX0_gets_1 1 rfl rfl)
theorem dX0_gets_26 : decode cX0_gets 26 = .ok (.goto 4, 3) := dk_167 0 4 (dk_at dksX0_gets_1 2 rfl rfl)
theorem dX0_gets_29 : decode cX0_gets 29 = .ok (.iconst (-1), 1) := dk_2 (dk_at dksX0_gets_1 5 rfl rfl)
theorem dX0_gets_30 : decode cX0_gets 30 = .ok (.ireturn, 1) := dk_172 (dk_at dksX0_gets_1 6 rfl rfl)
abbrev cX0_held : ByteArray := prog_1_method_3_code
def yX0_held : MethodName := ⟨RX0, "held", "(J)J"⟩
def dkwX0_held_0 : List UInt8 := [20, 0, 3, 20, 0, 5, 30, 184, 0, 7, 184, 0, 13, 173]
abbrev dktX0_held_0 : List UInt8 := dkwX0_held_0 ++ []
theorem dksX0_held_0 : cX0_held.data.toList.drop 0 = dktX0_held_0 := by decide +kernel
theorem dX0_held_0 : decode cX0_held 0 = .ok (.ldc2_w 3, 3) := dk_20 0 3 (dk_at dksX0_held_0 0 rfl rfl)
theorem dX0_held_3 : decode cX0_held 3 = .ok (.ldc2_w 5, 3) := dk_20 0 5 (dk_at dksX0_held_0 3 rfl rfl)
theorem dX0_held_6 : decode cX0_held 6 = .ok (.lload_n 0, 1) := dk_30 (dk_at dksX0_held_0 6 rfl rfl)
theorem dX0_held_7 : decode cX0_held 7 = .ok (.invokestatic 7, 3) := dk_184 0 7 (dk_at dksX0_held_0 7 rfl rfl)
theorem dX0_held_10 : decode cX0_held 10 = .ok (.invokestatic 13, 3) := dk_184 0 13 (dk_at dksX0_held_0 10 rfl rfl)
theorem dX0_held_13 : decode cX0_held 13 = .ok (.lreturn, 1) := dk_173 (dk_at dksX0_held_0 13 rfl rfl)
abbrev cX0_looked : ByteArray := prog_1_method_53_code
def yX0_looked : MethodName := ⟨RX0, "looked", "(IJ)J"⟩
def dkwX0_looked_2 : List UInt8 := [180, 1, 83, 32, 136, 182, 0, 254, 173]
abbrev dktX0_looked_2 : List UInt8 := dkwX0_looked_2 ++ []
def dkwX0_looked_1 : List UInt8 := [180, 0, 83, 180, 0, 187, 42, 180, 1, 83, 50, 32, 136, 46, 133, 167, 0, 16, 42, 180, 0, 83, 42]
abbrev dktX0_looked_1 : List UInt8 := dkwX0_looked_1 ++ dktX0_looked_2
def dkwX0_looked_0 : List UInt8 := [32, 9, 148, 155, 0, 13, 32, 42, 182, 0, 171, 133, 148, 155, 0, 5, 9, 173, 27, 154, 0, 22, 42]
abbrev dktX0_looked_0 : List UInt8 := dkwX0_looked_0 ++ dktX0_looked_1
theorem dksX0_looked_0 : cX0_looked.data.toList.drop 0 = dktX0_looked_0 := by decide +kernel
theorem dksX0_looked_1 : cX0_looked.data.toList.drop 23 = dktX0_looked_1 := dk_seg dksX0_looked_0 23 rfl rfl
theorem dksX0_looked_2 : cX0_looked.data.toList.drop 46 = dktX0_looked_2 := dk_seg dksX0_looked_1 23 rfl rfl
theorem dX0_looked_0 : decode cX0_looked 0 = .ok (.lload_n 2, 1) := dk_32 (dk_at dksX0_looked_0 0 rfl rfl)
theorem dX0_looked_1 : decode cX0_looked 1 = .ok (.lconst 0, 1) := dk_9 (dk_at dksX0_looked_0 1 rfl rfl)
theorem dX0_looked_2 : decode cX0_looked 2 = .ok (.lcmp, 1) := dk_148 (dk_at dksX0_looked_0 2 rfl rfl)
theorem dX0_looked_3 : decode cX0_looked 3 = .ok (.ifCond .lt 13, 3) := dk_155 0 13 (dk_at dksX0_looked_0 3 rfl rfl)
theorem dX0_looked_6 : decode cX0_looked 6 = .ok (.lload_n 2, 1) := dk_32 (dk_at dksX0_looked_0 6 rfl rfl)
theorem dX0_looked_7 : decode cX0_looked 7 = .ok (.aload_n 0, 1) := dk_42 (dk_at dksX0_looked_0 7 rfl rfl)
theorem dX0_looked_8 : decode cX0_looked 8 = .ok (.invokevirtual 171, 3) := dk_182 0 171 (dk_at dksX0_looked_0 8 rfl rfl)
theorem dX0_looked_11 : decode cX0_looked 11 = .ok (.i2l, 1) := dk_133 (dk_at dksX0_looked_0 11 rfl rfl)
theorem dX0_looked_12 : decode cX0_looked 12 = .ok (.lcmp, 1) := dk_148 (dk_at dksX0_looked_0 12 rfl rfl)
theorem dX0_looked_13 : decode cX0_looked 13 = .ok (.ifCond .lt 5, 3) := dk_155 0 5 (dk_at dksX0_looked_0 13 rfl rfl)
theorem dX0_looked_16 : decode cX0_looked 16 = .ok (.lconst 0, 1) := dk_9 (dk_at dksX0_looked_0 16 rfl rfl)
theorem dX0_looked_17 : decode cX0_looked 17 = .ok (.lreturn, 1) := dk_173 (dk_at dksX0_looked_0 17 rfl rfl)
theorem dX0_looked_18 : decode cX0_looked 18 = .ok (.iload_n 1, 1) := dk_27 (dk_at dksX0_looked_0 18 rfl rfl)
theorem dX0_looked_19 : decode cX0_looked 19 = .ok (.ifCond .ne 22, 3) := dk_154 0 22 (dk_at dksX0_looked_0 19 rfl rfl)
theorem dX0_looked_22 : decode cX0_looked 22 = .ok (.aload_n 0, 1) := dk_42 (dk_at dksX0_looked_0 22 rfl rfl)
theorem dX0_looked_23 : decode cX0_looked 23 = .ok (.getfield 83, 3) := dk_180 0 83 (dk_at dksX0_looked_1 0 rfl rfl)
theorem dX0_looked_26 : decode cX0_looked 26 = .ok (.getfield 187, 3) := dk_180 0 187 (dk_at dksX0_looked_1 3 rfl rfl)
theorem dX0_looked_29 : decode cX0_looked 29 = .ok (.aload_n 0, 1) := dk_42 (dk_at dksX0_looked_1 6 rfl rfl)
theorem dX0_looked_30 : decode cX0_looked 30 = .ok (.getfield 339, 3) := dk_180 1 83 (dk_at dksX0_looked_1 7 rfl rfl)
theorem dX0_looked_33 : decode cX0_looked 33 = .ok (.aaload, 1) := dk_50 (dk_at dksX0_looked_1 10 rfl rfl)
theorem dX0_looked_34 : decode cX0_looked 34 = .ok (.lload_n 2, 1) := dk_32 (dk_at dksX0_looked_1 11 rfl rfl)
theorem dX0_looked_35 : decode cX0_looked 35 = .ok (.l2i, 1) := dk_136 (dk_at dksX0_looked_1 12 rfl rfl)
theorem dX0_looked_36 : decode cX0_looked 36 = .ok (.iaload, 1) := dk_46 (dk_at dksX0_looked_1 13 rfl rfl)
theorem dX0_looked_37 : decode cX0_looked 37 = .ok (.i2l, 1) := dk_133 (dk_at dksX0_looked_1 14 rfl rfl)
theorem dX0_looked_38 : decode cX0_looked 38 = .ok (.goto 16, 3) := dk_167 0 16 (dk_at dksX0_looked_1 15 rfl rfl)
theorem dX0_looked_41 : decode cX0_looked 41 = .ok (.aload_n 0, 1) := dk_42 (dk_at dksX0_looked_1 18 rfl rfl)
theorem dX0_looked_42 : decode cX0_looked 42 = .ok (.getfield 83, 3) := dk_180 0 83 (dk_at dksX0_looked_1 19 rfl rfl)
theorem dX0_looked_45 : decode cX0_looked 45 = .ok (.aload_n 0, 1) := dk_42 (dk_at dksX0_looked_1 22 rfl rfl)
theorem dX0_looked_46 : decode cX0_looked 46 = .ok (.getfield 339, 3) := dk_180 1 83 (dk_at dksX0_looked_2 0 rfl rfl)
theorem dX0_looked_49 : decode cX0_looked 49 = .ok (.lload_n 2, 1) := dk_32 (dk_at dksX0_looked_2 3 rfl rfl)
theorem dX0_looked_50 : decode cX0_looked 50 = .ok (.l2i, 1) := dk_136 (dk_at dksX0_looked_2 4 rfl rfl)
theorem dX0_looked_51 : decode cX0_looked 51 = .ok (.invokevirtual 254, 3) := dk_182 0 254 (dk_at dksX0_looked_2 5 rfl rfl)
theorem dX0_looked_54 : decode cX0_looked 54 = .ok (.lreturn, 1) := dk_173 (dk_at dksX0_looked_2 8 rfl rfl)
abbrev cX0_verb : ByteArray := prog_1_method_24_code
def yX0_verb : MethodName := ⟨RX0, "verb", "(II)I"⟩
def dkwX0_verb_3 : List UInt8 := [167, 0, 8, 3, 167, 0, 4, 2, 172]
abbrev dktX0_verb_3 : List UInt8 := dkwX0_verb_3 ++ []
def dkwX0_verb_2 : List UInt8 := [167, 0, 31, 28, 5, 160, 0, 25, 42, 180, 0, 83, 180, 0, 179, 27, 184, 0, 238, 153, 0, 7, 4]
abbrev dktX0_verb_2 : List UInt8 := dkwX0_verb_2 ++ dktX0_verb_3
def dkwX0_verb_1 : List UInt8 := [192, 0, 245, 78, 28, 154, 0, 10, 45, 180, 0, 247, 167, 0, 43, 28, 4, 160, 0, 10, 45, 180, 0, 248]
abbrev dktX0_verb_1 : List UInt8 := dkwX0_verb_1 ++ dktX0_verb_2
def dkwX0_verb_0 : List UInt8 := [42, 27, 182, 0, 242, 154, 0, 5, 2, 172, 42, 180, 0, 31, 180, 0, 166, 27, 185, 0, 197, 2, 0]
abbrev dktX0_verb_0 : List UInt8 := dkwX0_verb_0 ++ dktX0_verb_1
theorem dksX0_verb_0 : cX0_verb.data.toList.drop 0 = dktX0_verb_0 := by decide +kernel
theorem dksX0_verb_1 : cX0_verb.data.toList.drop 23 = dktX0_verb_1 := dk_seg dksX0_verb_0 23 rfl rfl
theorem dksX0_verb_2 : cX0_verb.data.toList.drop 47 = dktX0_verb_2 := dk_seg dksX0_verb_1 24 rfl rfl
theorem dksX0_verb_3 : cX0_verb.data.toList.drop 70 = dktX0_verb_3 := dk_seg dksX0_verb_2 23 rfl rfl
theorem dX0_verb_0 : decode cX0_verb 0 = .ok (.aload_n 0, 1) := dk_42 (dk_at dksX0_verb_0 0 rfl rfl)
theorem dX0_verb_1 : decode cX0_verb 1 = .ok (.iload_n 1, 1) := dk_27 (dk_at dksX0_verb_0 1 rfl rfl)
theorem dX0_verb_2 : decode cX0_verb 2 = .ok (.invokevirtual 242, 3) := dk_182 0 242 (dk_at dksX0_verb_0 2 rfl rfl)
theorem dX0_verb_5 : decode cX0_verb 5 = .ok (.ifCond .ne 5, 3) := dk_154 0 5 (dk_at dksX0_verb_0 5 rfl rfl)
theorem dX0_verb_8 : decode cX0_verb 8 = .ok (.iconst (-1), 1) := dk_2 (dk_at dksX0_verb_0 8 rfl rfl)
theorem dX0_verb_9 : decode cX0_verb 9 = .ok (.ireturn, 1) := dk_172 (dk_at dksX0_verb_0 9 rfl rfl)
theorem dX0_verb_10 : decode cX0_verb 10 = .ok (.aload_n 0, 1) := dk_42 (dk_at dksX0_verb_0 10 rfl rfl)
theorem dX0_verb_11 : decode cX0_verb 11 = .ok (.getfield 31, 3) := dk_180 0 31 (dk_at dksX0_verb_0 11 rfl rfl)
theorem dX0_verb_14 : decode cX0_verb 14 = .ok (.getfield 166, 3) := dk_180 0 166 (dk_at dksX0_verb_0 14 rfl rfl)
theorem dX0_verb_17 : decode cX0_verb 17 = .ok (.iload_n 1, 1) := dk_27 (dk_at dksX0_verb_0 17 rfl rfl)
theorem dX0_verb_18 : decode cX0_verb 18 = .ok (.invokeinterface 197 2, 5) := by decide +kernel
theorem dX0_verb_23 : decode cX0_verb 23 = .ok (.checkcast 245, 3) := dk_192 0 245 (dk_at dksX0_verb_1 0 rfl rfl)
theorem dX0_verb_26 : decode cX0_verb 26 = .ok (.astore_n 3, 1) := dk_78 (dk_at dksX0_verb_1 3 rfl rfl)
theorem dX0_verb_27 : decode cX0_verb 27 = .ok (.iload_n 2, 1) := dk_28 (dk_at dksX0_verb_1 4 rfl rfl)
theorem dX0_verb_28 : decode cX0_verb 28 = .ok (.ifCond .ne 10, 3) := dk_154 0 10 (dk_at dksX0_verb_1 5 rfl rfl)
theorem dX0_verb_31 : decode cX0_verb 31 = .ok (.aload_n 3, 1) := dk_45 (dk_at dksX0_verb_1 8 rfl rfl)
theorem dX0_verb_32 : decode cX0_verb 32 = .ok (.getfield 247, 3) := dk_180 0 247 (dk_at dksX0_verb_1 9 rfl rfl)
theorem dX0_verb_35 : decode cX0_verb 35 = .ok (.goto 43, 3) := dk_167 0 43 (dk_at dksX0_verb_1 12 rfl rfl)
theorem dX0_verb_38 : decode cX0_verb 38 = .ok (.iload_n 2, 1) := dk_28 (dk_at dksX0_verb_1 15 rfl rfl)
theorem dX0_verb_39 : decode cX0_verb 39 = .ok (.iconst 1, 1) := dk_4 (dk_at dksX0_verb_1 16 rfl rfl)
theorem dX0_verb_40 : decode cX0_verb 40 = .ok (.if_icmp .ne 10, 3) := dk_160 0 10 (dk_at dksX0_verb_1 17 rfl rfl)
theorem dX0_verb_43 : decode cX0_verb 43 = .ok (.aload_n 3, 1) := dk_45 (dk_at dksX0_verb_1 20 rfl rfl)
theorem dX0_verb_44 : decode cX0_verb 44 = .ok (.getfield 248, 3) := dk_180 0 248 (dk_at dksX0_verb_1 21 rfl rfl)
theorem dX0_verb_47 : decode cX0_verb 47 = .ok (.goto 31, 3) := dk_167 0 31 (dk_at dksX0_verb_2 0 rfl rfl)
theorem dX0_verb_50 : decode cX0_verb 50 = .ok (.iload_n 2, 1) := dk_28 (dk_at dksX0_verb_2 3 rfl rfl)
theorem dX0_verb_51 : decode cX0_verb 51 = .ok (.iconst 2, 1) := dk_5 (dk_at dksX0_verb_2 4 rfl rfl)
theorem dX0_verb_52 : decode cX0_verb 52 = .ok (.if_icmp .ne 25, 3) := dk_160 0 25 (dk_at dksX0_verb_2 5 rfl rfl)
theorem dX0_verb_55 : decode cX0_verb 55 = .ok (.aload_n 0, 1) := dk_42 (dk_at dksX0_verb_2 8 rfl rfl)
theorem dX0_verb_56 : decode cX0_verb 56 = .ok (.getfield 83, 3) := dk_180 0 83 (dk_at dksX0_verb_2 9 rfl rfl)
theorem dX0_verb_59 : decode cX0_verb 59 = .ok (.getfield 179, 3) := dk_180 0 179 (dk_at dksX0_verb_2 12 rfl rfl)
theorem dX0_verb_62 : decode cX0_verb 62 = .ok (.iload_n 1, 1) := dk_27 (dk_at dksX0_verb_2 15 rfl rfl)
theorem dX0_verb_63 : decode cX0_verb 63 = .ok (.invokestatic 238, 3) := dk_184 0 238 (dk_at dksX0_verb_2 16 rfl rfl)
theorem dX0_verb_66 : decode cX0_verb 66 = .ok (.ifCond .eq 7, 3) := dk_153 0 7 (dk_at dksX0_verb_2 19 rfl rfl)
theorem dX0_verb_69 : decode cX0_verb 69 = .ok (.iconst 1, 1) := dk_4 (dk_at dksX0_verb_2 22 rfl rfl)
theorem dX0_verb_70 : decode cX0_verb 70 = .ok (.goto 8, 3) := dk_167 0 8 (dk_at dksX0_verb_3 0 rfl rfl)
theorem dX0_verb_73 : decode cX0_verb 73 = .ok (.iconst 0, 1) := dk_3 (dk_at dksX0_verb_3 3 rfl rfl)
theorem dX0_verb_74 : decode cX0_verb 74 = .ok (.goto 4, 3) := dk_167 0 4 (dk_at dksX0_verb_3 4 rfl rfl)
theorem dX0_verb_77 : decode cX0_verb 77 = .ok (.iconst (-1), 1) := dk_2 (dk_at dksX0_verb_3 7 rfl rfl)
theorem dX0_verb_78 : decode cX0_verb 78 = .ok (.ireturn, 1) := dk_172 (dk_at dksX0_verb_3 8 rfl rfl)
abbrev cX0_isVerb : ByteArray := prog_1_method_19_code
def yX0_isVerb : MethodName := ⟨RX0, "isVerb", "(I)Z"⟩
def dkwX0_isVerb_0 : List UInt8 := [27, 155, 0, 15, 27, 42, 182, 0, 171, 162, 0, 7, 4, 167, 0, 4, 3, 172]
abbrev dktX0_isVerb_0 : List UInt8 := dkwX0_isVerb_0 ++ []
theorem dksX0_isVerb_0 : cX0_isVerb.data.toList.drop 0 = dktX0_isVerb_0 := by decide +kernel
theorem dX0_isVerb_0 : decode cX0_isVerb 0 = .ok (.iload_n 1, 1) := dk_27 (dk_at dksX0_isVerb_0 0 rfl rfl)
theorem dX0_isVerb_1 : decode cX0_isVerb 1 = .ok (.ifCond .lt 15, 3) := dk_155 0 15 (dk_at dksX0_isVerb_0 1 rfl rfl)
theorem dX0_isVerb_4 : decode cX0_isVerb 4 = .ok (.iload_n 1, 1) := dk_27 (dk_at dksX0_isVerb_0 4 rfl rfl)
theorem dX0_isVerb_5 : decode cX0_isVerb 5 = .ok (.aload_n 0, 1) := dk_42 (dk_at dksX0_isVerb_0 5 rfl rfl)
theorem dX0_isVerb_6 : decode cX0_isVerb 6 = .ok (.invokevirtual 171, 3) := dk_182 0 171 (dk_at dksX0_isVerb_0 6 rfl rfl)
theorem dX0_isVerb_9 : decode cX0_isVerb 9 = .ok (.if_icmp .ge 7, 3) := dk_162 0 7 (dk_at dksX0_isVerb_0 9 rfl rfl)
theorem dX0_isVerb_12 : decode cX0_isVerb 12 = .ok (.iconst 1, 1) := dk_4 (dk_at dksX0_isVerb_0 12 rfl rfl)
theorem dX0_isVerb_13 : decode cX0_isVerb 13 = .ok (.goto 4, 3) := dk_167 0 4 (dk_at dksX0_isVerb_0 13 rfl rfl)
theorem dX0_isVerb_16 : decode cX0_isVerb 16 = .ok (.iconst 0, 1) := dk_3 (dk_at dksX0_isVerb_0 16 rfl rfl)
theorem dX0_isVerb_17 : decode cX0_isVerb 17 = .ok (.ireturn, 1) := dk_172 (dk_at dksX0_isVerb_0 17 rfl rfl)
abbrev cX0_pair : ByteArray := prog_1_method_25_code
def yX0_pair : MethodName := ⟨RX0, "pair", "(III)I"⟩
def dkwX0_pair_2 : List UInt8 := [42, 180, 0, 83, 180, 0, 187, 27, 50, 28, 46, 167, 0, 4, 2, 172]
abbrev dktX0_pair_2 : List UInt8 := dkwX0_pair_2 ++ []
def dkwX0_pair_1 : List UInt8 := [180, 0, 83, 27, 28, 182, 0, 251, 153, 0, 7, 4, 167, 0, 27, 3, 167, 0, 23, 29, 4, 160, 0, 17]
abbrev dktX0_pair_1 : List UInt8 := dkwX0_pair_1 ++ dktX0_pair_2
def dkwX0_pair_0 : List UInt8 := [42, 27, 182, 0, 216, 153, 0, 11, 42, 28, 182, 0, 242, 154, 0, 5, 2, 172, 29, 154, 0, 23, 42]
abbrev dktX0_pair_0 : List UInt8 := dkwX0_pair_0 ++ dktX0_pair_1
theorem dksX0_pair_0 : cX0_pair.data.toList.drop 0 = dktX0_pair_0 := by decide +kernel
theorem dksX0_pair_1 : cX0_pair.data.toList.drop 23 = dktX0_pair_1 := dk_seg dksX0_pair_0 23 rfl rfl
theorem dksX0_pair_2 : cX0_pair.data.toList.drop 47 = dktX0_pair_2 := dk_seg dksX0_pair_1 24 rfl rfl
theorem dX0_pair_0 : decode cX0_pair 0 = .ok (.aload_n 0, 1) := dk_42 (dk_at dksX0_pair_0 0 rfl rfl)
theorem dX0_pair_1 : decode cX0_pair 1 = .ok (.iload_n 1, 1) := dk_27 (dk_at dksX0_pair_0 1 rfl rfl)
theorem dX0_pair_2 : decode cX0_pair 2 = .ok (.invokevirtual 216, 3) := dk_182 0 216 (dk_at dksX0_pair_0 2 rfl rfl)
theorem dX0_pair_5 : decode cX0_pair 5 = .ok (.ifCond .eq 11, 3) := dk_153 0 11 (dk_at dksX0_pair_0 5 rfl rfl)
theorem dX0_pair_8 : decode cX0_pair 8 = .ok (.aload_n 0, 1) := dk_42 (dk_at dksX0_pair_0 8 rfl rfl)
theorem dX0_pair_9 : decode cX0_pair 9 = .ok (.iload_n 2, 1) := dk_28 (dk_at dksX0_pair_0 9 rfl rfl)
theorem dX0_pair_10 : decode cX0_pair 10 = .ok (.invokevirtual 242, 3) := dk_182 0 242 (dk_at dksX0_pair_0 10 rfl rfl)
theorem dX0_pair_13 : decode cX0_pair 13 = .ok (.ifCond .ne 5, 3) := dk_154 0 5 (dk_at dksX0_pair_0 13 rfl rfl)
theorem dX0_pair_16 : decode cX0_pair 16 = .ok (.iconst (-1), 1) := dk_2 (dk_at dksX0_pair_0 16 rfl rfl)
theorem dX0_pair_17 : decode cX0_pair 17 = .ok (.ireturn, 1) := dk_172 (dk_at dksX0_pair_0 17 rfl rfl)
theorem dX0_pair_18 : decode cX0_pair 18 = .ok (.iload_n 3, 1) := dk_29 (dk_at dksX0_pair_0 18 rfl rfl)
theorem dX0_pair_19 : decode cX0_pair 19 = .ok (.ifCond .ne 23, 3) := dk_154 0 23 (dk_at dksX0_pair_0 19 rfl rfl)
theorem dX0_pair_22 : decode cX0_pair 22 = .ok (.aload_n 0, 1) := dk_42 (dk_at dksX0_pair_0 22 rfl rfl)
theorem dX0_pair_23 : decode cX0_pair 23 = .ok (.getfield 83, 3) := dk_180 0 83 (dk_at dksX0_pair_1 0 rfl rfl)
theorem dX0_pair_26 : decode cX0_pair 26 = .ok (.iload_n 1, 1) := dk_27 (dk_at dksX0_pair_1 3 rfl rfl)
theorem dX0_pair_27 : decode cX0_pair 27 = .ok (.iload_n 2, 1) := dk_28 (dk_at dksX0_pair_1 4 rfl rfl)
theorem dX0_pair_28 : decode cX0_pair 28 = .ok (.invokevirtual 251, 3) := dk_182 0 251 (dk_at dksX0_pair_1 5 rfl rfl)
theorem dX0_pair_31 : decode cX0_pair 31 = .ok (.ifCond .eq 7, 3) := dk_153 0 7 (dk_at dksX0_pair_1 8 rfl rfl)
theorem dX0_pair_34 : decode cX0_pair 34 = .ok (.iconst 1, 1) := dk_4 (dk_at dksX0_pair_1 11 rfl rfl)
theorem dX0_pair_35 : decode cX0_pair 35 = .ok (.goto 27, 3) := dk_167 0 27 (dk_at dksX0_pair_1 12 rfl rfl)
theorem dX0_pair_38 : decode cX0_pair 38 = .ok (.iconst 0, 1) := dk_3 (dk_at dksX0_pair_1 15 rfl rfl)
theorem dX0_pair_39 : decode cX0_pair 39 = .ok (.goto 23, 3) := dk_167 0 23 (dk_at dksX0_pair_1 16 rfl rfl)
theorem dX0_pair_42 : decode cX0_pair 42 = .ok (.iload_n 3, 1) := dk_29 (dk_at dksX0_pair_1 19 rfl rfl)
theorem dX0_pair_43 : decode cX0_pair 43 = .ok (.iconst 1, 1) := dk_4 (dk_at dksX0_pair_1 20 rfl rfl)
theorem dX0_pair_44 : decode cX0_pair 44 = .ok (.if_icmp .ne 17, 3) := dk_160 0 17 (dk_at dksX0_pair_1 21 rfl rfl)
theorem dX0_pair_47 : decode cX0_pair 47 = .ok (.aload_n 0, 1) := dk_42 (dk_at dksX0_pair_2 0 rfl rfl)
theorem dX0_pair_48 : decode cX0_pair 48 = .ok (.getfield 83, 3) := dk_180 0 83 (dk_at dksX0_pair_2 1 rfl rfl)
theorem dX0_pair_51 : decode cX0_pair 51 = .ok (.getfield 187, 3) := dk_180 0 187 (dk_at dksX0_pair_2 4 rfl rfl)
theorem dX0_pair_54 : decode cX0_pair 54 = .ok (.iload_n 1, 1) := dk_27 (dk_at dksX0_pair_2 7 rfl rfl)
theorem dX0_pair_55 : decode cX0_pair 55 = .ok (.aaload, 1) := dk_50 (dk_at dksX0_pair_2 8 rfl rfl)
theorem dX0_pair_56 : decode cX0_pair 56 = .ok (.iload_n 2, 1) := dk_28 (dk_at dksX0_pair_2 9 rfl rfl)
theorem dX0_pair_57 : decode cX0_pair 57 = .ok (.iaload, 1) := dk_46 (dk_at dksX0_pair_2 10 rfl rfl)
theorem dX0_pair_58 : decode cX0_pair 58 = .ok (.goto 4, 3) := dk_167 0 4 (dk_at dksX0_pair_2 11 rfl rfl)
theorem dX0_pair_61 : decode cX0_pair 61 = .ok (.iconst (-1), 1) := dk_2 (dk_at dksX0_pair_2 14 rfl rfl)
theorem dX0_pair_62 : decode cX0_pair 62 = .ok (.ireturn, 1) := dk_172 (dk_at dksX0_pair_2 15 rfl rfl)
abbrev cX0_well : ByteArray := prog_1_method_26_code
def yX0_well : MethodName := ⟨RX0, "well", "(II)J"⟩
def dkwX0_well_1 : List UInt8 := [182, 0, 254, 167, 0, 6, 20, 1, 2, 173]
abbrev dktX0_well_1 : List UInt8 := dkwX0_well_1 ++ []
def dkwX0_well_0 : List UInt8 := [42, 27, 182, 0, 216, 153, 0, 23, 42, 28, 182, 0, 242, 153, 0, 15, 42, 180, 0, 83, 27, 28]
abbrev dktX0_well_0 : List UInt8 := dkwX0_well_0 ++ dktX0_well_1
theorem dksX0_well_0 : cX0_well.data.toList.drop 0 = dktX0_well_0 := by decide +kernel
theorem dksX0_well_1 : cX0_well.data.toList.drop 22 = dktX0_well_1 := dk_seg dksX0_well_0 22 rfl rfl
theorem dX0_well_0 : decode cX0_well 0 = .ok (.aload_n 0, 1) := dk_42 (dk_at dksX0_well_0 0 rfl rfl)
theorem dX0_well_1 : decode cX0_well 1 = .ok (.iload_n 1, 1) := dk_27 (dk_at dksX0_well_0 1 rfl rfl)
theorem dX0_well_2 : decode cX0_well 2 = .ok (.invokevirtual 216, 3) := dk_182 0 216 (dk_at dksX0_well_0 2 rfl rfl)
theorem dX0_well_5 : decode cX0_well 5 = .ok (.ifCond .eq 23, 3) := dk_153 0 23 (dk_at dksX0_well_0 5 rfl rfl)
theorem dX0_well_8 : decode cX0_well 8 = .ok (.aload_n 0, 1) := dk_42 (dk_at dksX0_well_0 8 rfl rfl)
theorem dX0_well_9 : decode cX0_well 9 = .ok (.iload_n 2, 1) := dk_28 (dk_at dksX0_well_0 9 rfl rfl)
theorem dX0_well_10 : decode cX0_well 10 = .ok (.invokevirtual 242, 3) := dk_182 0 242 (dk_at dksX0_well_0 10 rfl rfl)
theorem dX0_well_13 : decode cX0_well 13 = .ok (.ifCond .eq 15, 3) := dk_153 0 15 (dk_at dksX0_well_0 13 rfl rfl)
theorem dX0_well_16 : decode cX0_well 16 = .ok (.aload_n 0, 1) := dk_42 (dk_at dksX0_well_0 16 rfl rfl)
theorem dX0_well_17 : decode cX0_well 17 = .ok (.getfield 83, 3) := dk_180 0 83 (dk_at dksX0_well_0 17 rfl rfl)
theorem dX0_well_20 : decode cX0_well 20 = .ok (.iload_n 1, 1) := dk_27 (dk_at dksX0_well_0 20 rfl rfl)
theorem dX0_well_21 : decode cX0_well 21 = .ok (.iload_n 2, 1) := dk_28 (dk_at dksX0_well_0 21 rfl rfl)
theorem dX0_well_22 : decode cX0_well 22 = .ok (.invokevirtual 254, 3) := dk_182 0 254 (dk_at dksX0_well_1 0 rfl rfl)
theorem dX0_well_25 : decode cX0_well 25 = .ok (.goto 6, 3) := dk_167 0 6 (dk_at dksX0_well_1 3 rfl rfl)
theorem dX0_well_28 : decode cX0_well 28 = .ok (.ldc2_w 258, 3) := dk_20 1 2 (dk_at dksX0_well_1 6 rfl rfl)
theorem dX0_well_31 : decode cX0_well 31 = .ok (.lreturn, 1) := dk_173 (dk_at dksX0_well_1 9 rfl rfl)
abbrev cX0_kept : ByteArray := prog_1_method_27_code
def yX0_kept : MethodName := ⟨RX0, "kept", "(II)I"⟩
def dkwX0_kept_1 : List UInt8 := [153, 0, 17, 42, 180, 0, 83, 180, 1, 4, 27, 50, 28, 46, 167, 0, 4, 2, 172]
abbrev dktX0_kept_1 : List UInt8 := dkwX0_kept_1 ++ []
def dkwX0_kept_0 : List UInt8 := [27, 3, 42, 180, 0, 83, 180, 0, 190, 4, 100, 184, 0, 193, 153, 0, 26, 28, 3, 5, 184, 0, 193]
abbrev dktX0_kept_0 : List UInt8 := dkwX0_kept_0 ++ dktX0_kept_1
theorem dksX0_kept_0 : cX0_kept.data.toList.drop 0 = dktX0_kept_0 := by decide +kernel
theorem dksX0_kept_1 : cX0_kept.data.toList.drop 23 = dktX0_kept_1 := dk_seg dksX0_kept_0 23 rfl rfl
theorem dX0_kept_0 : decode cX0_kept 0 = .ok (.iload_n 1, 1) := dk_27 (dk_at dksX0_kept_0 0 rfl rfl)
theorem dX0_kept_1 : decode cX0_kept 1 = .ok (.iconst 0, 1) := dk_3 (dk_at dksX0_kept_0 1 rfl rfl)
theorem dX0_kept_2 : decode cX0_kept 2 = .ok (.aload_n 0, 1) := dk_42 (dk_at dksX0_kept_0 2 rfl rfl)
theorem dX0_kept_3 : decode cX0_kept 3 = .ok (.getfield 83, 3) := dk_180 0 83 (dk_at dksX0_kept_0 3 rfl rfl)
theorem dX0_kept_6 : decode cX0_kept 6 = .ok (.getfield 190, 3) := dk_180 0 190 (dk_at dksX0_kept_0 6 rfl rfl)
theorem dX0_kept_9 : decode cX0_kept 9 = .ok (.iconst 1, 1) := dk_4 (dk_at dksX0_kept_0 9 rfl rfl)
theorem dX0_kept_10 : decode cX0_kept 10 = .ok (.isub, 1) := dk_100 (dk_at dksX0_kept_0 10 rfl rfl)
theorem dX0_kept_11 : decode cX0_kept 11 = .ok (.invokestatic 193, 3) := dk_184 0 193 (dk_at dksX0_kept_0 11 rfl rfl)
theorem dX0_kept_14 : decode cX0_kept 14 = .ok (.ifCond .eq 26, 3) := dk_153 0 26 (dk_at dksX0_kept_0 14 rfl rfl)
theorem dX0_kept_17 : decode cX0_kept 17 = .ok (.iload_n 2, 1) := dk_28 (dk_at dksX0_kept_0 17 rfl rfl)
theorem dX0_kept_18 : decode cX0_kept 18 = .ok (.iconst 0, 1) := dk_3 (dk_at dksX0_kept_0 18 rfl rfl)
theorem dX0_kept_19 : decode cX0_kept 19 = .ok (.iconst 2, 1) := dk_5 (dk_at dksX0_kept_0 19 rfl rfl)
theorem dX0_kept_20 : decode cX0_kept 20 = .ok (.invokestatic 193, 3) := dk_184 0 193 (dk_at dksX0_kept_0 20 rfl rfl)
theorem dX0_kept_23 : decode cX0_kept 23 = .ok (.ifCond .eq 17, 3) := dk_153 0 17 (dk_at dksX0_kept_1 0 rfl rfl)
theorem dX0_kept_26 : decode cX0_kept 26 = .ok (.aload_n 0, 1) := dk_42 (dk_at dksX0_kept_1 3 rfl rfl)
theorem dX0_kept_27 : decode cX0_kept 27 = .ok (.getfield 83, 3) := dk_180 0 83 (dk_at dksX0_kept_1 4 rfl rfl)
theorem dX0_kept_30 : decode cX0_kept 30 = .ok (.getfield 260, 3) := dk_180 1 4 (dk_at dksX0_kept_1 7 rfl rfl)
theorem dX0_kept_33 : decode cX0_kept 33 = .ok (.iload_n 1, 1) := dk_27 (dk_at dksX0_kept_1 10 rfl rfl)
theorem dX0_kept_34 : decode cX0_kept 34 = .ok (.aaload, 1) := dk_50 (dk_at dksX0_kept_1 11 rfl rfl)
theorem dX0_kept_35 : decode cX0_kept 35 = .ok (.iload_n 2, 1) := dk_28 (dk_at dksX0_kept_1 12 rfl rfl)
theorem dX0_kept_36 : decode cX0_kept 36 = .ok (.iaload, 1) := dk_46 (dk_at dksX0_kept_1 13 rfl rfl)
theorem dX0_kept_37 : decode cX0_kept 37 = .ok (.goto 4, 3) := dk_167 0 4 (dk_at dksX0_kept_1 14 rfl rfl)
theorem dX0_kept_40 : decode cX0_kept 40 = .ok (.iconst (-1), 1) := dk_2 (dk_at dksX0_kept_1 17 rfl rfl)
theorem dX0_kept_41 : decode cX0_kept 41 = .ok (.ireturn, 1) := dk_172 (dk_at dksX0_kept_1 18 rfl rfl)
abbrev cX0_best : ByteArray := prog_1_method_28_code
def yX0_best : MethodName := ⟨RX0, "best", "()J"⟩
def dkwX0_best_1 : List UInt8 := [42, 180, 0, 76, 180, 1, 10, 167, 0, 6, 20, 1, 2, 173]
abbrev dktX0_best_1 : List UInt8 := dkwX0_best_1 ++ []
def dkwX0_best_0 : List UInt8 := [42, 182, 1, 6, 153, 0, 30, 42, 180, 0, 76, 42, 180, 0, 83, 182, 0, 206, 180, 0, 210, 153, 0, 13]
abbrev dktX0_best_0 : List UInt8 := dkwX0_best_0 ++ dktX0_best_1
theorem dksX0_best_0 : cX0_best.data.toList.drop 0 = dktX0_best_0 := by decide +kernel
theorem dksX0_best_1 : cX0_best.data.toList.drop 24 = dktX0_best_1 := dk_seg dksX0_best_0 24 rfl rfl
theorem dX0_best_0 : decode cX0_best 0 = .ok (.aload_n 0, 1) := dk_42 (dk_at dksX0_best_0 0 rfl rfl)
theorem dX0_best_1 : decode cX0_best 1 = .ok (.invokevirtual 262, 3) := dk_182 1 6 (dk_at dksX0_best_0 1 rfl rfl)
theorem dX0_best_4 : decode cX0_best 4 = .ok (.ifCond .eq 30, 3) := dk_153 0 30 (dk_at dksX0_best_0 4 rfl rfl)
theorem dX0_best_7 : decode cX0_best 7 = .ok (.aload_n 0, 1) := dk_42 (dk_at dksX0_best_0 7 rfl rfl)
theorem dX0_best_8 : decode cX0_best 8 = .ok (.getfield 76, 3) := dk_180 0 76 (dk_at dksX0_best_0 8 rfl rfl)
theorem dX0_best_11 : decode cX0_best 11 = .ok (.aload_n 0, 1) := dk_42 (dk_at dksX0_best_0 11 rfl rfl)
theorem dX0_best_12 : decode cX0_best 12 = .ok (.getfield 83, 3) := dk_180 0 83 (dk_at dksX0_best_0 12 rfl rfl)
theorem dX0_best_15 : decode cX0_best 15 = .ok (.invokevirtual 206, 3) := dk_182 0 206 (dk_at dksX0_best_0 15 rfl rfl)
theorem dX0_best_18 : decode cX0_best 18 = .ok (.getfield 210, 3) := dk_180 0 210 (dk_at dksX0_best_0 18 rfl rfl)
theorem dX0_best_21 : decode cX0_best 21 = .ok (.ifCond .eq 13, 3) := dk_153 0 13 (dk_at dksX0_best_0 21 rfl rfl)
theorem dX0_best_24 : decode cX0_best 24 = .ok (.aload_n 0, 1) := dk_42 (dk_at dksX0_best_1 0 rfl rfl)
theorem dX0_best_25 : decode cX0_best 25 = .ok (.getfield 76, 3) := dk_180 0 76 (dk_at dksX0_best_1 1 rfl rfl)
theorem dX0_best_28 : decode cX0_best 28 = .ok (.getfield 266, 3) := dk_180 1 10 (dk_at dksX0_best_1 4 rfl rfl)
theorem dX0_best_31 : decode cX0_best 31 = .ok (.goto 6, 3) := dk_167 0 6 (dk_at dksX0_best_1 7 rfl rfl)
theorem dX0_best_34 : decode cX0_best 34 = .ok (.ldc2_w 258, 3) := dk_20 1 2 (dk_at dksX0_best_1 10 rfl rfl)
theorem dX0_best_37 : decode cX0_best 37 = .ok (.lreturn, 1) := dk_173 (dk_at dksX0_best_1 13 rfl rfl)
abbrev cX0_isCountry : ByteArray := prog_1_method_15_code
def yX0_isCountry : MethodName := ⟨RX0, "isCountry", "()Z"⟩
def dkwX0_isCountry_0 : List UInt8 := [42, 180, 0, 31, 180, 0, 154, 158, 0, 7, 4, 167, 0, 4, 3, 172]
abbrev dktX0_isCountry_0 : List UInt8 := dkwX0_isCountry_0 ++ []
theorem dksX0_isCountry_0 : cX0_isCountry.data.toList.drop 0 = dktX0_isCountry_0 := by decide +kernel
theorem dX0_isCountry_0 : decode cX0_isCountry 0 = .ok (.aload_n 0, 1) := dk_42 (dk_at dksX0_isCountry_0 0 rfl rfl)
theorem dX0_isCountry_1 : decode cX0_isCountry 1 = .ok (.getfield 31, 3) := dk_180 0 31 (dk_at dksX0_isCountry_0 1 rfl rfl)
theorem dX0_isCountry_4 : decode cX0_isCountry 4 = .ok (.getfield 154, 3) := dk_180 0 154 (dk_at dksX0_isCountry_0 4 rfl rfl)
theorem dX0_isCountry_7 : decode cX0_isCountry 7 = .ok (.ifCond .le 7, 3) := dk_158 0 7 (dk_at dksX0_isCountry_0 7 rfl rfl)
theorem dX0_isCountry_10 : decode cX0_isCountry 10 = .ok (.iconst 1, 1) := dk_4 (dk_at dksX0_isCountry_0 10 rfl rfl)
theorem dX0_isCountry_11 : decode cX0_isCountry 11 = .ok (.goto 4, 3) := dk_167 0 4 (dk_at dksX0_isCountry_0 11 rfl rfl)
theorem dX0_isCountry_14 : decode cX0_isCountry 14 = .ok (.iconst 0, 1) := dk_3 (dk_at dksX0_isCountry_0 14 rfl rfl)
theorem dX0_isCountry_15 : decode cX0_isCountry 15 = .ok (.ireturn, 1) := dk_172 (dk_at dksX0_isCountry_0 15 rfl rfl)
abbrev cX0_round : ByteArray := prog_1_method_29_code
def yX0_round : MethodName := ⟨RX0, "round", "(I)I"⟩
def dkwX0_round_2 : List UInt8 := [167, 0, 12, 42, 180, 0, 69, 180, 1, 16, 27, 46, 172]
abbrev dktX0_round_2 : List UInt8 := dkwX0_round_2 ++ []
def dkwX0_round_1 : List UInt8 := [180, 0, 69, 42, 180, 0, 83, 182, 0, 232, 87, 27, 2, 160, 0, 13, 42, 180, 0, 69, 180, 1, 13]
abbrev dktX0_round_1 : List UInt8 := dkwX0_round_1 ++ dktX0_round_2
def dkwX0_round_0 : List UInt8 := [42, 182, 1, 6, 153, 0, 16, 27, 2, 159, 0, 13, 42, 27, 182, 0, 216, 154, 0, 5, 2, 172, 42]
abbrev dktX0_round_0 : List UInt8 := dkwX0_round_0 ++ dktX0_round_1
theorem dksX0_round_0 : cX0_round.data.toList.drop 0 = dktX0_round_0 := by decide +kernel
theorem dksX0_round_1 : cX0_round.data.toList.drop 23 = dktX0_round_1 := dk_seg dksX0_round_0 23 rfl rfl
theorem dksX0_round_2 : cX0_round.data.toList.drop 46 = dktX0_round_2 := dk_seg dksX0_round_1 23 rfl rfl
theorem dX0_round_0 : decode cX0_round 0 = .ok (.aload_n 0, 1) := dk_42 (dk_at dksX0_round_0 0 rfl rfl)
theorem dX0_round_1 : decode cX0_round 1 = .ok (.invokevirtual 262, 3) := dk_182 1 6 (dk_at dksX0_round_0 1 rfl rfl)
theorem dX0_round_4 : decode cX0_round 4 = .ok (.ifCond .eq 16, 3) := dk_153 0 16 (dk_at dksX0_round_0 4 rfl rfl)
theorem dX0_round_7 : decode cX0_round 7 = .ok (.iload_n 1, 1) := dk_27 (dk_at dksX0_round_0 7 rfl rfl)
theorem dX0_round_8 : decode cX0_round 8 = .ok (.iconst (-1), 1) := dk_2 (dk_at dksX0_round_0 8 rfl rfl)
theorem dX0_round_9 : decode cX0_round 9 = .ok (.if_icmp .eq 13, 3) := dk_159 0 13 (dk_at dksX0_round_0 9 rfl rfl)
theorem dX0_round_12 : decode cX0_round 12 = .ok (.aload_n 0, 1) := dk_42 (dk_at dksX0_round_0 12 rfl rfl)
theorem dX0_round_13 : decode cX0_round 13 = .ok (.iload_n 1, 1) := dk_27 (dk_at dksX0_round_0 13 rfl rfl)
theorem dX0_round_14 : decode cX0_round 14 = .ok (.invokevirtual 216, 3) := dk_182 0 216 (dk_at dksX0_round_0 14 rfl rfl)
theorem dX0_round_17 : decode cX0_round 17 = .ok (.ifCond .ne 5, 3) := dk_154 0 5 (dk_at dksX0_round_0 17 rfl rfl)
theorem dX0_round_20 : decode cX0_round 20 = .ok (.iconst (-1), 1) := dk_2 (dk_at dksX0_round_0 20 rfl rfl)
theorem dX0_round_21 : decode cX0_round 21 = .ok (.ireturn, 1) := dk_172 (dk_at dksX0_round_0 21 rfl rfl)
theorem dX0_round_22 : decode cX0_round 22 = .ok (.aload_n 0, 1) := dk_42 (dk_at dksX0_round_0 22 rfl rfl)
theorem dX0_round_23 : decode cX0_round 23 = .ok (.getfield 69, 3) := dk_180 0 69 (dk_at dksX0_round_1 0 rfl rfl)
theorem dX0_round_26 : decode cX0_round 26 = .ok (.aload_n 0, 1) := dk_42 (dk_at dksX0_round_1 3 rfl rfl)
theorem dX0_round_27 : decode cX0_round 27 = .ok (.getfield 83, 3) := dk_180 0 83 (dk_at dksX0_round_1 4 rfl rfl)
theorem dX0_round_30 : decode cX0_round 30 = .ok (.invokevirtual 232, 3) := dk_182 0 232 (dk_at dksX0_round_1 7 rfl rfl)
theorem dX0_round_33 : decode cX0_round 33 = .ok (.pop, 1) := dk_87 (dk_at dksX0_round_1 10 rfl rfl)
theorem dX0_round_34 : decode cX0_round 34 = .ok (.iload_n 1, 1) := dk_27 (dk_at dksX0_round_1 11 rfl rfl)
theorem dX0_round_35 : decode cX0_round 35 = .ok (.iconst (-1), 1) := dk_2 (dk_at dksX0_round_1 12 rfl rfl)
theorem dX0_round_36 : decode cX0_round 36 = .ok (.if_icmp .ne 13, 3) := dk_160 0 13 (dk_at dksX0_round_1 13 rfl rfl)
theorem dX0_round_39 : decode cX0_round 39 = .ok (.aload_n 0, 1) := dk_42 (dk_at dksX0_round_1 16 rfl rfl)
theorem dX0_round_40 : decode cX0_round 40 = .ok (.getfield 69, 3) := dk_180 0 69 (dk_at dksX0_round_1 17 rfl rfl)
theorem dX0_round_43 : decode cX0_round 43 = .ok (.getfield 269, 3) := dk_180 1 13 (dk_at dksX0_round_1 20 rfl rfl)
theorem dX0_round_46 : decode cX0_round 46 = .ok (.goto 12, 3) := dk_167 0 12 (dk_at dksX0_round_2 0 rfl rfl)
theorem dX0_round_49 : decode cX0_round 49 = .ok (.aload_n 0, 1) := dk_42 (dk_at dksX0_round_2 3 rfl rfl)
theorem dX0_round_50 : decode cX0_round 50 = .ok (.getfield 69, 3) := dk_180 0 69 (dk_at dksX0_round_2 4 rfl rfl)
theorem dX0_round_53 : decode cX0_round 53 = .ok (.getfield 272, 3) := dk_180 1 16 (dk_at dksX0_round_2 7 rfl rfl)
theorem dX0_round_56 : decode cX0_round 56 = .ok (.iload_n 1, 1) := dk_27 (dk_at dksX0_round_2 10 rfl rfl)
theorem dX0_round_57 : decode cX0_round 57 = .ok (.iaload, 1) := dk_46 (dk_at dksX0_round_2 11 rfl rfl)
theorem dX0_round_58 : decode cX0_round 58 = .ok (.ireturn, 1) := dk_172 (dk_at dksX0_round_2 12 rfl rfl)
abbrev cX0_truths : ByteArray := prog_1_method_30_code
def yX0_truths : MethodName := ⟨RX0, "truths", "()I"⟩
def dkwX0_truths_3 : List UInt8 := [27, 29, 153, 0, 9, 4, 28, 120, 167, 0, 4, 3, 128, 60, 132, 2, 1, 167, 255, 173, 27, 172]
abbrev dktX0_truths_3 : List UInt8 := dkwX0_truths_3 ++ []
def dkwX0_truths_2 : List UInt8 := [180, 0, 83, 28, 21, 4, 182, 0, 251, 153, 0, 7, 4, 167, 0, 4, 3, 62, 132, 4, 1, 167, 255, 206]
abbrev dktX0_truths_2 : List UInt8 := dkwX0_truths_2 ++ dktX0_truths_3
def dkwX0_truths_1 : List UInt8 := [162, 0, 47, 29, 153, 0, 35, 42, 180, 0, 83, 180, 0, 179, 21, 4, 184, 0, 238, 154, 0, 16, 42]
abbrev dktX0_truths_1 : List UInt8 := dkwX0_truths_1 ++ dktX0_truths_2
def dkwX0_truths_0 : List UInt8 := [3, 60, 3, 61, 28, 42, 182, 0, 169, 162, 0, 81, 4, 62, 3, 54, 4, 21, 4, 42, 182, 0, 171]
abbrev dktX0_truths_0 : List UInt8 := dkwX0_truths_0 ++ dktX0_truths_1
theorem dksX0_truths_0 : cX0_truths.data.toList.drop 0 = dktX0_truths_0 := by decide +kernel
theorem dksX0_truths_1 : cX0_truths.data.toList.drop 23 = dktX0_truths_1 := dk_seg dksX0_truths_0 23 rfl rfl
theorem dksX0_truths_2 : cX0_truths.data.toList.drop 46 = dktX0_truths_2 := dk_seg dksX0_truths_1 23 rfl rfl
theorem dksX0_truths_3 : cX0_truths.data.toList.drop 70 = dktX0_truths_3 := dk_seg dksX0_truths_2 24 rfl rfl
theorem dX0_truths_0 : decode cX0_truths 0 = .ok (.iconst 0, 1) := dk_3 (dk_at dksX0_truths_0 0 rfl rfl)
theorem dX0_truths_1 : decode cX0_truths 1 = .ok (.istore_n 1, 1) := dk_60 (dk_at dksX0_truths_0 1 rfl rfl)
theorem dX0_truths_2 : decode cX0_truths 2 = .ok (.iconst 0, 1) := dk_3 (dk_at dksX0_truths_0 2 rfl rfl)
theorem dX0_truths_3 : decode cX0_truths 3 = .ok (.istore_n 2, 1) := dk_61 (dk_at dksX0_truths_0 3 rfl rfl)
theorem dX0_truths_4 : decode cX0_truths 4 = .ok (.iload_n 2, 1) := dk_28 (dk_at dksX0_truths_0 4 rfl rfl)
theorem dX0_truths_5 : decode cX0_truths 5 = .ok (.aload_n 0, 1) := dk_42 (dk_at dksX0_truths_0 5 rfl rfl)
theorem dX0_truths_6 : decode cX0_truths 6 = .ok (.invokevirtual 169, 3) := dk_182 0 169 (dk_at dksX0_truths_0 6 rfl rfl)
theorem dX0_truths_9 : decode cX0_truths 9 = .ok (.if_icmp .ge 81, 3) := dk_162 0 81 (dk_at dksX0_truths_0 9 rfl rfl)
theorem dX0_truths_12 : decode cX0_truths 12 = .ok (.iconst 1, 1) := dk_4 (dk_at dksX0_truths_0 12 rfl rfl)
theorem dX0_truths_13 : decode cX0_truths 13 = .ok (.istore_n 3, 1) := dk_62 (dk_at dksX0_truths_0 13 rfl rfl)
theorem dX0_truths_14 : decode cX0_truths 14 = .ok (.iconst 0, 1) := dk_3 (dk_at dksX0_truths_0 14 rfl rfl)
theorem dX0_truths_15 : decode cX0_truths 15 = .ok (.istore 4, 2) := dk_54 4 (dk_at dksX0_truths_0 15 rfl rfl)
theorem dX0_truths_17 : decode cX0_truths 17 = .ok (.iload 4, 2) := dk_21 4 (dk_at dksX0_truths_0 17 rfl rfl)
theorem dX0_truths_19 : decode cX0_truths 19 = .ok (.aload_n 0, 1) := dk_42 (dk_at dksX0_truths_0 19 rfl rfl)
theorem dX0_truths_20 : decode cX0_truths 20 = .ok (.invokevirtual 171, 3) := dk_182 0 171 (dk_at dksX0_truths_0 20 rfl rfl)
theorem dX0_truths_23 : decode cX0_truths 23 = .ok (.if_icmp .ge 47, 3) := dk_162 0 47 (dk_at dksX0_truths_1 0 rfl rfl)
theorem dX0_truths_26 : decode cX0_truths 26 = .ok (.iload_n 3, 1) := dk_29 (dk_at dksX0_truths_1 3 rfl rfl)
theorem dX0_truths_27 : decode cX0_truths 27 = .ok (.ifCond .eq 35, 3) := dk_153 0 35 (dk_at dksX0_truths_1 4 rfl rfl)
theorem dX0_truths_30 : decode cX0_truths 30 = .ok (.aload_n 0, 1) := dk_42 (dk_at dksX0_truths_1 7 rfl rfl)
theorem dX0_truths_31 : decode cX0_truths 31 = .ok (.getfield 83, 3) := dk_180 0 83 (dk_at dksX0_truths_1 8 rfl rfl)
theorem dX0_truths_34 : decode cX0_truths 34 = .ok (.getfield 179, 3) := dk_180 0 179 (dk_at dksX0_truths_1 11 rfl rfl)
theorem dX0_truths_37 : decode cX0_truths 37 = .ok (.iload 4, 2) := dk_21 4 (dk_at dksX0_truths_1 14 rfl rfl)
theorem dX0_truths_39 : decode cX0_truths 39 = .ok (.invokestatic 238, 3) := dk_184 0 238 (dk_at dksX0_truths_1 16 rfl rfl)
theorem dX0_truths_42 : decode cX0_truths 42 = .ok (.ifCond .ne 16, 3) := dk_154 0 16 (dk_at dksX0_truths_1 19 rfl rfl)
theorem dX0_truths_45 : decode cX0_truths 45 = .ok (.aload_n 0, 1) := dk_42 (dk_at dksX0_truths_1 22 rfl rfl)
theorem dX0_truths_46 : decode cX0_truths 46 = .ok (.getfield 83, 3) := dk_180 0 83 (dk_at dksX0_truths_2 0 rfl rfl)
theorem dX0_truths_49 : decode cX0_truths 49 = .ok (.iload_n 2, 1) := dk_28 (dk_at dksX0_truths_2 3 rfl rfl)
theorem dX0_truths_50 : decode cX0_truths 50 = .ok (.iload 4, 2) := dk_21 4 (dk_at dksX0_truths_2 4 rfl rfl)
theorem dX0_truths_52 : decode cX0_truths 52 = .ok (.invokevirtual 251, 3) := dk_182 0 251 (dk_at dksX0_truths_2 6 rfl rfl)
theorem dX0_truths_55 : decode cX0_truths 55 = .ok (.ifCond .eq 7, 3) := dk_153 0 7 (dk_at dksX0_truths_2 9 rfl rfl)
theorem dX0_truths_58 : decode cX0_truths 58 = .ok (.iconst 1, 1) := dk_4 (dk_at dksX0_truths_2 12 rfl rfl)
theorem dX0_truths_59 : decode cX0_truths 59 = .ok (.goto 4, 3) := dk_167 0 4 (dk_at dksX0_truths_2 13 rfl rfl)
theorem dX0_truths_62 : decode cX0_truths 62 = .ok (.iconst 0, 1) := dk_3 (dk_at dksX0_truths_2 16 rfl rfl)
theorem dX0_truths_63 : decode cX0_truths 63 = .ok (.istore_n 3, 1) := dk_62 (dk_at dksX0_truths_2 17 rfl rfl)
theorem dX0_truths_64 : decode cX0_truths 64 = .ok (.iinc 4 1, 3) := dk_132 4 1 (dk_at dksX0_truths_2 18 rfl rfl)
theorem dX0_truths_67 : decode cX0_truths 67 = .ok (.goto (-50), 3) := dk_167 255 206 (dk_at dksX0_truths_2 21 rfl rfl)
theorem dX0_truths_70 : decode cX0_truths 70 = .ok (.iload_n 1, 1) := dk_27 (dk_at dksX0_truths_3 0 rfl rfl)
theorem dX0_truths_71 : decode cX0_truths 71 = .ok (.iload_n 3, 1) := dk_29 (dk_at dksX0_truths_3 1 rfl rfl)
theorem dX0_truths_72 : decode cX0_truths 72 = .ok (.ifCond .eq 9, 3) := dk_153 0 9 (dk_at dksX0_truths_3 2 rfl rfl)
theorem dX0_truths_75 : decode cX0_truths 75 = .ok (.iconst 1, 1) := dk_4 (dk_at dksX0_truths_3 5 rfl rfl)
theorem dX0_truths_76 : decode cX0_truths 76 = .ok (.iload_n 2, 1) := dk_28 (dk_at dksX0_truths_3 6 rfl rfl)
theorem dX0_truths_77 : decode cX0_truths 77 = .ok (.ishl, 1) := dk_120 (dk_at dksX0_truths_3 7 rfl rfl)
theorem dX0_truths_78 : decode cX0_truths 78 = .ok (.goto 4, 3) := dk_167 0 4 (dk_at dksX0_truths_3 8 rfl rfl)
theorem dX0_truths_81 : decode cX0_truths 81 = .ok (.iconst 0, 1) := dk_3 (dk_at dksX0_truths_3 11 rfl rfl)
theorem dX0_truths_82 : decode cX0_truths 82 = .ok (.ior, 1) := dk_128 (dk_at dksX0_truths_3 12 rfl rfl)
theorem dX0_truths_83 : decode cX0_truths 83 = .ok (.istore_n 1, 1) := dk_60 (dk_at dksX0_truths_3 13 rfl rfl)
theorem dX0_truths_84 : decode cX0_truths 84 = .ok (.iinc 2 1, 3) := dk_132 2 1 (dk_at dksX0_truths_3 14 rfl rfl)
theorem dX0_truths_87 : decode cX0_truths 87 = .ok (.goto (-83), 3) := dk_167 255 173 (dk_at dksX0_truths_3 17 rfl rfl)
theorem dX0_truths_90 : decode cX0_truths 90 = .ok (.iload_n 1, 1) := dk_27 (dk_at dksX0_truths_3 20 rfl rfl)
theorem dX0_truths_91 : decode cX0_truths 91 = .ok (.ireturn, 1) := dk_172 (dk_at dksX0_truths_3 21 rfl rfl)
abbrev cX0_needed : ByteArray := prog_1_method_31_code
def yX0_needed : MethodName := ⟨RX0, "needed", "()I"⟩
def dkwX0_needed_3 : List UInt8 := [153, 0, 7, 3, 167, 0, 6, 4, 28, 120, 128, 60, 132, 2, 1, 167, 255, 192, 27, 172]
abbrev dktX0_needed_3 : List UInt8 := dkwX0_needed_3 ++ []
def dkwX0_needed_2 : List UInt8 := [27, 42, 180, 0, 76, 42, 180, 0, 83, 182, 1, 19, 4, 28, 120, 2, 130, 126, 182, 1, 22, 180, 0, 210]
abbrev dktX0_needed_2 : List UInt8 := dkwX0_needed_2 ++ dktX0_needed_3
def dkwX0_needed_1 : List UInt8 := [42, 182, 0, 171, 162, 0, 62, 42, 180, 0, 83, 180, 0, 179, 28, 184, 0, 238, 153, 0, 6, 167, 0, 39]
abbrev dktX0_needed_1 : List UInt8 := dkwX0_needed_1 ++ dktX0_needed_2
def dkwX0_needed_0 : List UInt8 := [42, 180, 0, 76, 42, 180, 0, 83, 182, 0, 206, 180, 0, 210, 154, 0, 5, 3, 172, 3, 60, 3, 61, 28]
abbrev dktX0_needed_0 : List UInt8 := dkwX0_needed_0 ++ dktX0_needed_1
theorem dksX0_needed_0 : cX0_needed.data.toList.drop 0 = dktX0_needed_0 := by decide +kernel
theorem dksX0_needed_1 : cX0_needed.data.toList.drop 24 = dktX0_needed_1 := dk_seg dksX0_needed_0 24 rfl rfl
theorem dksX0_needed_2 : cX0_needed.data.toList.drop 48 = dktX0_needed_2 := dk_seg dksX0_needed_1 24 rfl rfl
theorem dksX0_needed_3 : cX0_needed.data.toList.drop 72 = dktX0_needed_3 := dk_seg dksX0_needed_2 24 rfl rfl
theorem dX0_needed_0 : decode cX0_needed 0 = .ok (.aload_n 0, 1) := dk_42 (dk_at dksX0_needed_0 0 rfl rfl)
theorem dX0_needed_1 : decode cX0_needed 1 = .ok (.getfield 76, 3) := dk_180 0 76 (dk_at dksX0_needed_0 1 rfl rfl)
theorem dX0_needed_4 : decode cX0_needed 4 = .ok (.aload_n 0, 1) := dk_42 (dk_at dksX0_needed_0 4 rfl rfl)
theorem dX0_needed_5 : decode cX0_needed 5 = .ok (.getfield 83, 3) := dk_180 0 83 (dk_at dksX0_needed_0 5 rfl rfl)
theorem dX0_needed_8 : decode cX0_needed 8 = .ok (.invokevirtual 206, 3) := dk_182 0 206 (dk_at dksX0_needed_0 8 rfl rfl)
theorem dX0_needed_11 : decode cX0_needed 11 = .ok (.getfield 210, 3) := dk_180 0 210 (dk_at dksX0_needed_0 11 rfl rfl)
theorem dX0_needed_14 : decode cX0_needed 14 = .ok (.ifCond .ne 5, 3) := dk_154 0 5 (dk_at dksX0_needed_0 14 rfl rfl)
theorem dX0_needed_17 : decode cX0_needed 17 = .ok (.iconst 0, 1) := dk_3 (dk_at dksX0_needed_0 17 rfl rfl)
theorem dX0_needed_18 : decode cX0_needed 18 = .ok (.ireturn, 1) := dk_172 (dk_at dksX0_needed_0 18 rfl rfl)
theorem dX0_needed_19 : decode cX0_needed 19 = .ok (.iconst 0, 1) := dk_3 (dk_at dksX0_needed_0 19 rfl rfl)
theorem dX0_needed_20 : decode cX0_needed 20 = .ok (.istore_n 1, 1) := dk_60 (dk_at dksX0_needed_0 20 rfl rfl)
theorem dX0_needed_21 : decode cX0_needed 21 = .ok (.iconst 0, 1) := dk_3 (dk_at dksX0_needed_0 21 rfl rfl)
theorem dX0_needed_22 : decode cX0_needed 22 = .ok (.istore_n 2, 1) := dk_61 (dk_at dksX0_needed_0 22 rfl rfl)
theorem dX0_needed_23 : decode cX0_needed 23 = .ok (.iload_n 2, 1) := dk_28 (dk_at dksX0_needed_0 23 rfl rfl)
theorem dX0_needed_24 : decode cX0_needed 24 = .ok (.aload_n 0, 1) := dk_42 (dk_at dksX0_needed_1 0 rfl rfl)
theorem dX0_needed_25 : decode cX0_needed 25 = .ok (.invokevirtual 171, 3) := dk_182 0 171 (dk_at dksX0_needed_1 1 rfl rfl)
theorem dX0_needed_28 : decode cX0_needed 28 = .ok (.if_icmp .ge 62, 3) := dk_162 0 62 (dk_at dksX0_needed_1 4 rfl rfl)
theorem dX0_needed_31 : decode cX0_needed 31 = .ok (.aload_n 0, 1) := dk_42 (dk_at dksX0_needed_1 7 rfl rfl)
theorem dX0_needed_32 : decode cX0_needed 32 = .ok (.getfield 83, 3) := dk_180 0 83 (dk_at dksX0_needed_1 8 rfl rfl)
theorem dX0_needed_35 : decode cX0_needed 35 = .ok (.getfield 179, 3) := dk_180 0 179 (dk_at dksX0_needed_1 11 rfl rfl)
theorem dX0_needed_38 : decode cX0_needed 38 = .ok (.iload_n 2, 1) := dk_28 (dk_at dksX0_needed_1 14 rfl rfl)
theorem dX0_needed_39 : decode cX0_needed 39 = .ok (.invokestatic 238, 3) := dk_184 0 238 (dk_at dksX0_needed_1 15 rfl rfl)
theorem dX0_needed_42 : decode cX0_needed 42 = .ok (.ifCond .eq 6, 3) := dk_153 0 6 (dk_at dksX0_needed_1 18 rfl rfl)
theorem dX0_needed_45 : decode cX0_needed 45 = .ok (.goto 39, 3) := dk_167 0 39 (dk_at dksX0_needed_1 21 rfl rfl)
theorem dX0_needed_48 : decode cX0_needed 48 = .ok (.iload_n 1, 1) := dk_27 (dk_at dksX0_needed_2 0 rfl rfl)
theorem dX0_needed_49 : decode cX0_needed 49 = .ok (.aload_n 0, 1) := dk_42 (dk_at dksX0_needed_2 1 rfl rfl)
theorem dX0_needed_50 : decode cX0_needed 50 = .ok (.getfield 76, 3) := dk_180 0 76 (dk_at dksX0_needed_2 2 rfl rfl)
theorem dX0_needed_53 : decode cX0_needed 53 = .ok (.aload_n 0, 1) := dk_42 (dk_at dksX0_needed_2 5 rfl rfl)
theorem dX0_needed_54 : decode cX0_needed 54 = .ok (.getfield 83, 3) := dk_180 0 83 (dk_at dksX0_needed_2 6 rfl rfl)
theorem dX0_needed_57 : decode cX0_needed 57 = .ok (.invokevirtual 275, 3) := dk_182 1 19 (dk_at dksX0_needed_2 9 rfl rfl)
theorem dX0_needed_60 : decode cX0_needed 60 = .ok (.iconst 1, 1) := dk_4 (dk_at dksX0_needed_2 12 rfl rfl)
theorem dX0_needed_61 : decode cX0_needed 61 = .ok (.iload_n 2, 1) := dk_28 (dk_at dksX0_needed_2 13 rfl rfl)
theorem dX0_needed_62 : decode cX0_needed 62 = .ok (.ishl, 1) := dk_120 (dk_at dksX0_needed_2 14 rfl rfl)
theorem dX0_needed_63 : decode cX0_needed 63 = .ok (.iconst (-1), 1) := dk_2 (dk_at dksX0_needed_2 15 rfl rfl)
theorem dX0_needed_64 : decode cX0_needed 64 = .ok (.ixor, 1) := dk_130 (dk_at dksX0_needed_2 16 rfl rfl)
theorem dX0_needed_65 : decode cX0_needed 65 = .ok (.iand, 1) := dk_126 (dk_at dksX0_needed_2 17 rfl rfl)
theorem dX0_needed_66 : decode cX0_needed 66 = .ok (.invokevirtual 278, 3) := dk_182 1 22 (dk_at dksX0_needed_2 18 rfl rfl)
theorem dX0_needed_69 : decode cX0_needed 69 = .ok (.getfield 210, 3) := dk_180 0 210 (dk_at dksX0_needed_2 21 rfl rfl)
theorem dX0_needed_72 : decode cX0_needed 72 = .ok (.ifCond .eq 7, 3) := dk_153 0 7 (dk_at dksX0_needed_3 0 rfl rfl)
theorem dX0_needed_75 : decode cX0_needed 75 = .ok (.iconst 0, 1) := dk_3 (dk_at dksX0_needed_3 3 rfl rfl)
theorem dX0_needed_76 : decode cX0_needed 76 = .ok (.goto 6, 3) := dk_167 0 6 (dk_at dksX0_needed_3 4 rfl rfl)
theorem dX0_needed_79 : decode cX0_needed 79 = .ok (.iconst 1, 1) := dk_4 (dk_at dksX0_needed_3 7 rfl rfl)
theorem dX0_needed_80 : decode cX0_needed 80 = .ok (.iload_n 2, 1) := dk_28 (dk_at dksX0_needed_3 8 rfl rfl)
theorem dX0_needed_81 : decode cX0_needed 81 = .ok (.ishl, 1) := dk_120 (dk_at dksX0_needed_3 9 rfl rfl)
theorem dX0_needed_82 : decode cX0_needed 82 = .ok (.ior, 1) := dk_128 (dk_at dksX0_needed_3 10 rfl rfl)
theorem dX0_needed_83 : decode cX0_needed 83 = .ok (.istore_n 1, 1) := dk_60 (dk_at dksX0_needed_3 11 rfl rfl)
theorem dX0_needed_84 : decode cX0_needed 84 = .ok (.iinc 2 1, 3) := dk_132 2 1 (dk_at dksX0_needed_3 12 rfl rfl)
theorem dX0_needed_87 : decode cX0_needed 87 = .ok (.goto (-64), 3) := dk_167 255 192 (dk_at dksX0_needed_3 15 rfl rfl)
theorem dX0_needed_90 : decode cX0_needed 90 = .ok (.iload_n 1, 1) := dk_27 (dk_at dksX0_needed_3 18 rfl rfl)
theorem dX0_needed_91 : decode cX0_needed 91 = .ok (.ireturn, 1) := dk_172 (dk_at dksX0_needed_3 19 rfl rfl)
abbrev cX0_spilt : ByteArray := prog_1_method_32_code
def yX0_spilt : MethodName := ⟨RX0, "spilt", "(I)I"⟩
def dkwX0_spilt_3 : List UInt8 := [180, 0, 76, 180, 0, 213, 27, 46, 172]
abbrev dktX0_spilt_3 : List UInt8 := dkwX0_spilt_3 ++ []
def dkwX0_spilt_2 : List UInt8 := [182, 0, 206, 182, 1, 26, 87, 27, 2, 160, 0, 13, 42, 180, 0, 76, 180, 1, 30, 167, 0, 12, 42]
abbrev dktX0_spilt_2 : List UInt8 := dkwX0_spilt_2 ++ dktX0_spilt_3
def dkwX0_spilt_1 : List UInt8 := [182, 1, 19, 184, 0, 182, 42, 182, 0, 169, 162, 0, 5, 2, 172, 42, 180, 0, 76, 42, 180, 0, 83]
abbrev dktX0_spilt_1 : List UInt8 := dkwX0_spilt_1 ++ dktX0_spilt_2
def dkwX0_spilt_0 : List UInt8 := [42, 182, 1, 6, 153, 0, 33, 27, 2, 159, 0, 11, 42, 27, 182, 0, 216, 153, 0, 20, 42, 180, 0, 83]
abbrev dktX0_spilt_0 : List UInt8 := dkwX0_spilt_0 ++ dktX0_spilt_1
theorem dksX0_spilt_0 : cX0_spilt.data.toList.drop 0 = dktX0_spilt_0 := by decide +kernel
theorem dksX0_spilt_1 : cX0_spilt.data.toList.drop 24 = dktX0_spilt_1 := dk_seg dksX0_spilt_0 24 rfl rfl
theorem dksX0_spilt_2 : cX0_spilt.data.toList.drop 47 = dktX0_spilt_2 := dk_seg dksX0_spilt_1 23 rfl rfl
theorem dksX0_spilt_3 : cX0_spilt.data.toList.drop 70 = dktX0_spilt_3 := dk_seg dksX0_spilt_2 23 rfl rfl
theorem dX0_spilt_0 : decode cX0_spilt 0 = .ok (.aload_n 0, 1) := dk_42 (dk_at dksX0_spilt_0 0 rfl rfl)
theorem dX0_spilt_1 : decode cX0_spilt 1 = .ok (.invokevirtual 262, 3) := dk_182 1 6 (dk_at dksX0_spilt_0 1 rfl rfl)
theorem dX0_spilt_4 : decode cX0_spilt 4 = .ok (.ifCond .eq 33, 3) := dk_153 0 33 (dk_at dksX0_spilt_0 4 rfl rfl)
theorem dX0_spilt_7 : decode cX0_spilt 7 = .ok (.iload_n 1, 1) := dk_27 (dk_at dksX0_spilt_0 7 rfl rfl)
theorem dX0_spilt_8 : decode cX0_spilt 8 = .ok (.iconst (-1), 1) := dk_2 (dk_at dksX0_spilt_0 8 rfl rfl)
theorem dX0_spilt_9 : decode cX0_spilt 9 = .ok (.if_icmp .eq 11, 3) := dk_159 0 11 (dk_at dksX0_spilt_0 9 rfl rfl)
theorem dX0_spilt_12 : decode cX0_spilt 12 = .ok (.aload_n 0, 1) := dk_42 (dk_at dksX0_spilt_0 12 rfl rfl)
theorem dX0_spilt_13 : decode cX0_spilt 13 = .ok (.iload_n 1, 1) := dk_27 (dk_at dksX0_spilt_0 13 rfl rfl)
theorem dX0_spilt_14 : decode cX0_spilt 14 = .ok (.invokevirtual 216, 3) := dk_182 0 216 (dk_at dksX0_spilt_0 14 rfl rfl)
theorem dX0_spilt_17 : decode cX0_spilt 17 = .ok (.ifCond .eq 20, 3) := dk_153 0 20 (dk_at dksX0_spilt_0 17 rfl rfl)
theorem dX0_spilt_20 : decode cX0_spilt 20 = .ok (.aload_n 0, 1) := dk_42 (dk_at dksX0_spilt_0 20 rfl rfl)
theorem dX0_spilt_21 : decode cX0_spilt 21 = .ok (.getfield 83, 3) := dk_180 0 83 (dk_at dksX0_spilt_0 21 rfl rfl)
theorem dX0_spilt_24 : decode cX0_spilt 24 = .ok (.invokevirtual 275, 3) := dk_182 1 19 (dk_at dksX0_spilt_1 0 rfl rfl)
theorem dX0_spilt_27 : decode cX0_spilt 27 = .ok (.invokestatic 182, 3) := dk_184 0 182 (dk_at dksX0_spilt_1 3 rfl rfl)
theorem dX0_spilt_30 : decode cX0_spilt 30 = .ok (.aload_n 0, 1) := dk_42 (dk_at dksX0_spilt_1 6 rfl rfl)
theorem dX0_spilt_31 : decode cX0_spilt 31 = .ok (.invokevirtual 169, 3) := dk_182 0 169 (dk_at dksX0_spilt_1 7 rfl rfl)
theorem dX0_spilt_34 : decode cX0_spilt 34 = .ok (.if_icmp .ge 5, 3) := dk_162 0 5 (dk_at dksX0_spilt_1 10 rfl rfl)
theorem dX0_spilt_37 : decode cX0_spilt 37 = .ok (.iconst (-1), 1) := dk_2 (dk_at dksX0_spilt_1 13 rfl rfl)
theorem dX0_spilt_38 : decode cX0_spilt 38 = .ok (.ireturn, 1) := dk_172 (dk_at dksX0_spilt_1 14 rfl rfl)
theorem dX0_spilt_39 : decode cX0_spilt 39 = .ok (.aload_n 0, 1) := dk_42 (dk_at dksX0_spilt_1 15 rfl rfl)
theorem dX0_spilt_40 : decode cX0_spilt 40 = .ok (.getfield 76, 3) := dk_180 0 76 (dk_at dksX0_spilt_1 16 rfl rfl)
theorem dX0_spilt_43 : decode cX0_spilt 43 = .ok (.aload_n 0, 1) := dk_42 (dk_at dksX0_spilt_1 19 rfl rfl)
theorem dX0_spilt_44 : decode cX0_spilt 44 = .ok (.getfield 83, 3) := dk_180 0 83 (dk_at dksX0_spilt_1 20 rfl rfl)
theorem dX0_spilt_47 : decode cX0_spilt 47 = .ok (.invokevirtual 206, 3) := dk_182 0 206 (dk_at dksX0_spilt_2 0 rfl rfl)
theorem dX0_spilt_50 : decode cX0_spilt 50 = .ok (.invokevirtual 282, 3) := dk_182 1 26 (dk_at dksX0_spilt_2 3 rfl rfl)
theorem dX0_spilt_53 : decode cX0_spilt 53 = .ok (.pop, 1) := dk_87 (dk_at dksX0_spilt_2 6 rfl rfl)
theorem dX0_spilt_54 : decode cX0_spilt 54 = .ok (.iload_n 1, 1) := dk_27 (dk_at dksX0_spilt_2 7 rfl rfl)
theorem dX0_spilt_55 : decode cX0_spilt 55 = .ok (.iconst (-1), 1) := dk_2 (dk_at dksX0_spilt_2 8 rfl rfl)
theorem dX0_spilt_56 : decode cX0_spilt 56 = .ok (.if_icmp .ne 13, 3) := dk_160 0 13 (dk_at dksX0_spilt_2 9 rfl rfl)
theorem dX0_spilt_59 : decode cX0_spilt 59 = .ok (.aload_n 0, 1) := dk_42 (dk_at dksX0_spilt_2 12 rfl rfl)
theorem dX0_spilt_60 : decode cX0_spilt 60 = .ok (.getfield 76, 3) := dk_180 0 76 (dk_at dksX0_spilt_2 13 rfl rfl)
theorem dX0_spilt_63 : decode cX0_spilt 63 = .ok (.getfield 286, 3) := dk_180 1 30 (dk_at dksX0_spilt_2 16 rfl rfl)
theorem dX0_spilt_66 : decode cX0_spilt 66 = .ok (.goto 12, 3) := dk_167 0 12 (dk_at dksX0_spilt_2 19 rfl rfl)
theorem dX0_spilt_69 : decode cX0_spilt 69 = .ok (.aload_n 0, 1) := dk_42 (dk_at dksX0_spilt_2 22 rfl rfl)
theorem dX0_spilt_70 : decode cX0_spilt 70 = .ok (.getfield 76, 3) := dk_180 0 76 (dk_at dksX0_spilt_3 0 rfl rfl)
theorem dX0_spilt_73 : decode cX0_spilt 73 = .ok (.getfield 213, 3) := dk_180 0 213 (dk_at dksX0_spilt_3 3 rfl rfl)
theorem dX0_spilt_76 : decode cX0_spilt 76 = .ok (.iload_n 1, 1) := dk_27 (dk_at dksX0_spilt_3 6 rfl rfl)
theorem dX0_spilt_77 : decode cX0_spilt 77 = .ok (.iaload, 1) := dk_46 (dk_at dksX0_spilt_3 7 rfl rfl)
theorem dX0_spilt_78 : decode cX0_spilt 78 = .ok (.ireturn, 1) := dk_172 (dk_at dksX0_spilt_3 8 rfl rfl)
abbrev cX0_choose : ByteArray := prog_1_method_33_code
def yX0_choose : MethodName := ⟨RX0, "choose", "(III)J"⟩
def dkwX0_choose_3 : List UInt8 := [154, 0, 8, 22, 4, 167, 0, 13, 42, 180, 0, 76, 180, 1, 33, 3, 46, 133, 173]
abbrev dktX0_choose_3 : List UInt8 := dkwX0_choose_3 ++ []
def dkwX0_choose_2 : List UInt8 := [3, 2, 79, 42, 180, 0, 76, 27, 28, 42, 180, 0, 83, 182, 1, 19, 3, 182, 1, 35, 55, 4, 29]
abbrev dktX0_choose_2 : List UInt8 := dkwX0_choose_2 ++ dktX0_choose_3
def dkwX0_choose_1 : List UInt8 := [184, 0, 193, 154, 0, 7, 20, 1, 2, 173, 42, 180, 0, 76, 42, 180, 0, 83, 182, 0, 206, 180, 1, 33]
abbrev dktX0_choose_1 : List UInt8 := dkwX0_choose_1 ++ dktX0_choose_2
def dkwX0_choose_0 : List UInt8 := [42, 27, 182, 0, 216, 153, 0, 25, 42, 28, 182, 0, 216, 153, 0, 17, 27, 28, 159, 0, 12, 29, 3, 4]
abbrev dktX0_choose_0 : List UInt8 := dkwX0_choose_0 ++ dktX0_choose_1
theorem dksX0_choose_0 : cX0_choose.data.toList.drop 0 = dktX0_choose_0 := by decide +kernel
theorem dksX0_choose_1 : cX0_choose.data.toList.drop 24 = dktX0_choose_1 := dk_seg dksX0_choose_0 24 rfl rfl
theorem dksX0_choose_2 : cX0_choose.data.toList.drop 48 = dktX0_choose_2 := dk_seg dksX0_choose_1 24 rfl rfl
theorem dksX0_choose_3 : cX0_choose.data.toList.drop 71 = dktX0_choose_3 := dk_seg dksX0_choose_2 23 rfl rfl
theorem dX0_choose_0 : decode cX0_choose 0 = .ok (.aload_n 0, 1) := dk_42 (dk_at dksX0_choose_0 0 rfl rfl)
theorem dX0_choose_1 : decode cX0_choose 1 = .ok (.iload_n 1, 1) := dk_27 (dk_at dksX0_choose_0 1 rfl rfl)
theorem dX0_choose_2 : decode cX0_choose 2 = .ok (.invokevirtual 216, 3) := dk_182 0 216 (dk_at dksX0_choose_0 2 rfl rfl)
theorem dX0_choose_5 : decode cX0_choose 5 = .ok (.ifCond .eq 25, 3) := dk_153 0 25 (dk_at dksX0_choose_0 5 rfl rfl)
theorem dX0_choose_8 : decode cX0_choose 8 = .ok (.aload_n 0, 1) := dk_42 (dk_at dksX0_choose_0 8 rfl rfl)
theorem dX0_choose_9 : decode cX0_choose 9 = .ok (.iload_n 2, 1) := dk_28 (dk_at dksX0_choose_0 9 rfl rfl)
theorem dX0_choose_10 : decode cX0_choose 10 = .ok (.invokevirtual 216, 3) := dk_182 0 216 (dk_at dksX0_choose_0 10 rfl rfl)
theorem dX0_choose_13 : decode cX0_choose 13 = .ok (.ifCond .eq 17, 3) := dk_153 0 17 (dk_at dksX0_choose_0 13 rfl rfl)
theorem dX0_choose_16 : decode cX0_choose 16 = .ok (.iload_n 1, 1) := dk_27 (dk_at dksX0_choose_0 16 rfl rfl)
theorem dX0_choose_17 : decode cX0_choose 17 = .ok (.iload_n 2, 1) := dk_28 (dk_at dksX0_choose_0 17 rfl rfl)
theorem dX0_choose_18 : decode cX0_choose 18 = .ok (.if_icmp .eq 12, 3) := dk_159 0 12 (dk_at dksX0_choose_0 18 rfl rfl)
theorem dX0_choose_21 : decode cX0_choose 21 = .ok (.iload_n 3, 1) := dk_29 (dk_at dksX0_choose_0 21 rfl rfl)
theorem dX0_choose_22 : decode cX0_choose 22 = .ok (.iconst 0, 1) := dk_3 (dk_at dksX0_choose_0 22 rfl rfl)
theorem dX0_choose_23 : decode cX0_choose 23 = .ok (.iconst 1, 1) := dk_4 (dk_at dksX0_choose_0 23 rfl rfl)
theorem dX0_choose_24 : decode cX0_choose 24 = .ok (.invokestatic 193, 3) := dk_184 0 193 (dk_at dksX0_choose_1 0 rfl rfl)
theorem dX0_choose_27 : decode cX0_choose 27 = .ok (.ifCond .ne 7, 3) := dk_154 0 7 (dk_at dksX0_choose_1 3 rfl rfl)
theorem dX0_choose_30 : decode cX0_choose 30 = .ok (.ldc2_w 258, 3) := dk_20 1 2 (dk_at dksX0_choose_1 6 rfl rfl)
theorem dX0_choose_33 : decode cX0_choose 33 = .ok (.lreturn, 1) := dk_173 (dk_at dksX0_choose_1 9 rfl rfl)
theorem dX0_choose_34 : decode cX0_choose 34 = .ok (.aload_n 0, 1) := dk_42 (dk_at dksX0_choose_1 10 rfl rfl)
theorem dX0_choose_35 : decode cX0_choose 35 = .ok (.getfield 76, 3) := dk_180 0 76 (dk_at dksX0_choose_1 11 rfl rfl)
theorem dX0_choose_38 : decode cX0_choose 38 = .ok (.aload_n 0, 1) := dk_42 (dk_at dksX0_choose_1 14 rfl rfl)
theorem dX0_choose_39 : decode cX0_choose 39 = .ok (.getfield 83, 3) := dk_180 0 83 (dk_at dksX0_choose_1 15 rfl rfl)
theorem dX0_choose_42 : decode cX0_choose 42 = .ok (.invokevirtual 206, 3) := dk_182 0 206 (dk_at dksX0_choose_1 18 rfl rfl)
theorem dX0_choose_45 : decode cX0_choose 45 = .ok (.getfield 289, 3) := dk_180 1 33 (dk_at dksX0_choose_1 21 rfl rfl)
theorem dX0_choose_48 : decode cX0_choose 48 = .ok (.iconst 0, 1) := dk_3 (dk_at dksX0_choose_2 0 rfl rfl)
theorem dX0_choose_49 : decode cX0_choose 49 = .ok (.iconst (-1), 1) := dk_2 (dk_at dksX0_choose_2 1 rfl rfl)
theorem dX0_choose_50 : decode cX0_choose 50 = .ok (.iastore, 1) := dk_79 (dk_at dksX0_choose_2 2 rfl rfl)
theorem dX0_choose_51 : decode cX0_choose 51 = .ok (.aload_n 0, 1) := dk_42 (dk_at dksX0_choose_2 3 rfl rfl)
theorem dX0_choose_52 : decode cX0_choose 52 = .ok (.getfield 76, 3) := dk_180 0 76 (dk_at dksX0_choose_2 4 rfl rfl)
theorem dX0_choose_55 : decode cX0_choose 55 = .ok (.iload_n 1, 1) := dk_27 (dk_at dksX0_choose_2 7 rfl rfl)
theorem dX0_choose_56 : decode cX0_choose 56 = .ok (.iload_n 2, 1) := dk_28 (dk_at dksX0_choose_2 8 rfl rfl)
theorem dX0_choose_57 : decode cX0_choose 57 = .ok (.aload_n 0, 1) := dk_42 (dk_at dksX0_choose_2 9 rfl rfl)
theorem dX0_choose_58 : decode cX0_choose 58 = .ok (.getfield 83, 3) := dk_180 0 83 (dk_at dksX0_choose_2 10 rfl rfl)
theorem dX0_choose_61 : decode cX0_choose 61 = .ok (.invokevirtual 275, 3) := dk_182 1 19 (dk_at dksX0_choose_2 13 rfl rfl)
theorem dX0_choose_64 : decode cX0_choose 64 = .ok (.iconst 0, 1) := dk_3 (dk_at dksX0_choose_2 16 rfl rfl)
theorem dX0_choose_65 : decode cX0_choose 65 = .ok (.invokevirtual 291, 3) := dk_182 1 35 (dk_at dksX0_choose_2 17 rfl rfl)
theorem dX0_choose_68 : decode cX0_choose 68 = .ok (.lstore 4, 2) := dk_55 4 (dk_at dksX0_choose_2 20 rfl rfl)
theorem dX0_choose_70 : decode cX0_choose 70 = .ok (.iload_n 3, 1) := dk_29 (dk_at dksX0_choose_2 22 rfl rfl)
theorem dX0_choose_71 : decode cX0_choose 71 = .ok (.ifCond .ne 8, 3) := dk_154 0 8 (dk_at dksX0_choose_3 0 rfl rfl)
theorem dX0_choose_74 : decode cX0_choose 74 = .ok (.lload 4, 2) := dk_22 4 (dk_at dksX0_choose_3 3 rfl rfl)
theorem dX0_choose_76 : decode cX0_choose 76 = .ok (.goto 13, 3) := dk_167 0 13 (dk_at dksX0_choose_3 5 rfl rfl)
theorem dX0_choose_79 : decode cX0_choose 79 = .ok (.aload_n 0, 1) := dk_42 (dk_at dksX0_choose_3 8 rfl rfl)
theorem dX0_choose_80 : decode cX0_choose 80 = .ok (.getfield 76, 3) := dk_180 0 76 (dk_at dksX0_choose_3 9 rfl rfl)
theorem dX0_choose_83 : decode cX0_choose 83 = .ok (.getfield 289, 3) := dk_180 1 33 (dk_at dksX0_choose_3 12 rfl rfl)
theorem dX0_choose_86 : decode cX0_choose 86 = .ok (.iconst 0, 1) := dk_3 (dk_at dksX0_choose_3 15 rfl rfl)
theorem dX0_choose_87 : decode cX0_choose 87 = .ok (.iaload, 1) := dk_46 (dk_at dksX0_choose_3 16 rfl rfl)
theorem dX0_choose_88 : decode cX0_choose 88 = .ok (.i2l, 1) := dk_133 (dk_at dksX0_choose_3 17 rfl rfl)
theorem dX0_choose_89 : decode cX0_choose 89 = .ok (.lreturn, 1) := dk_173 (dk_at dksX0_choose_3 18 rfl rfl)
abbrev cX0_asked : ByteArray := prog_1_method_34_code
def yX0_asked : MethodName := ⟨RX0, "asked", "()I"⟩
def dkwX0_asked_6 : List UInt8 := [182, 0, 235, 154, 0, 5, 28, 60, 132, 2, 1, 167, 255, 117, 27, 172]
abbrev dktX0_asked_6 : List UInt8 := dkwX0_asked_6 ++ []
def dkwX0_asked_5 : List UInt8 := [180, 0, 223, 29, 46, 79, 132, 3, 1, 167, 255, 185, 42, 180, 0, 69, 42, 180, 0, 87, 182, 0, 232]
abbrev dktX0_asked_5 : List UInt8 := dkwX0_asked_5 ++ dktX0_asked_6
def dkwX0_asked_4 : List UInt8 := [180, 0, 87, 180, 0, 223, 29, 28, 29, 184, 0, 238, 153, 0, 7, 3, 167, 0, 12, 42, 180, 0, 83]
abbrev dktX0_asked_4 : List UInt8 := dkwX0_asked_4 ++ dktX0_asked_5
def dkwX0_asked_3 : List UInt8 := [29, 28, 29, 184, 0, 238, 153, 0, 7, 3, 167, 0, 12, 42, 180, 0, 83, 180, 0, 220, 29, 46, 79, 42]
abbrev dktX0_asked_3 : List UInt8 := dkwX0_asked_3 ++ dktX0_asked_4
def dkwX0_asked_2 : List UInt8 := [180, 0, 83, 182, 1, 39, 87, 3, 62, 29, 42, 182, 0, 169, 162, 0, 69, 42, 180, 0, 87, 180, 0, 220]
abbrev dktX0_asked_2 : List UInt8 := dkwX0_asked_2 ++ dktX0_asked_3
def dkwX0_asked_1 : List UInt8 := [2, 159, 0, 17, 28, 184, 0, 182, 27, 184, 0, 182, 161, 0, 6, 167, 0, 110, 42, 180, 0, 87, 42]
abbrev dktX0_asked_1 : List UInt8 := dkwX0_asked_1 ++ dktX0_asked_2
def dkwX0_asked_0 : List UInt8 := [42, 182, 1, 6, 154, 0, 5, 2, 172, 2, 60, 3, 61, 28, 4, 42, 182, 0, 169, 120, 162, 0, 135, 27]
abbrev dktX0_asked_0 : List UInt8 := dkwX0_asked_0 ++ dktX0_asked_1
theorem dksX0_asked_0 : cX0_asked.data.toList.drop 0 = dktX0_asked_0 := by decide +kernel
theorem dksX0_asked_1 : cX0_asked.data.toList.drop 24 = dktX0_asked_1 := dk_seg dksX0_asked_0 24 rfl rfl
theorem dksX0_asked_2 : cX0_asked.data.toList.drop 47 = dktX0_asked_2 := dk_seg dksX0_asked_1 23 rfl rfl
theorem dksX0_asked_3 : cX0_asked.data.toList.drop 71 = dktX0_asked_3 := dk_seg dksX0_asked_2 24 rfl rfl
theorem dksX0_asked_4 : cX0_asked.data.toList.drop 95 = dktX0_asked_4 := dk_seg dksX0_asked_3 24 rfl rfl
theorem dksX0_asked_5 : cX0_asked.data.toList.drop 118 = dktX0_asked_5 := dk_seg dksX0_asked_4 23 rfl rfl
theorem dksX0_asked_6 : cX0_asked.data.toList.drop 141 = dktX0_asked_6 := dk_seg dksX0_asked_5 23 rfl rfl
theorem dX0_asked_0 : decode cX0_asked 0 = .ok (.aload_n 0, 1) := dk_42 (dk_at dksX0_asked_0 0 rfl rfl)
theorem dX0_asked_1 : decode cX0_asked 1 = .ok (.invokevirtual 262, 3) := dk_182 1 6 (dk_at dksX0_asked_0 1 rfl rfl)
theorem dX0_asked_4 : decode cX0_asked 4 = .ok (.ifCond .ne 5, 3) := dk_154 0 5 (dk_at dksX0_asked_0 4 rfl rfl)
theorem dX0_asked_7 : decode cX0_asked 7 = .ok (.iconst (-1), 1) := dk_2 (dk_at dksX0_asked_0 7 rfl rfl)
theorem dX0_asked_8 : decode cX0_asked 8 = .ok (.ireturn, 1) := dk_172 (dk_at dksX0_asked_0 8 rfl rfl)
theorem dX0_asked_9 : decode cX0_asked 9 = .ok (.iconst (-1), 1) := dk_2 (dk_at dksX0_asked_0 9 rfl rfl)
theorem dX0_asked_10 : decode cX0_asked 10 = .ok (.istore_n 1, 1) := dk_60 (dk_at dksX0_asked_0 10 rfl rfl)
theorem dX0_asked_11 : decode cX0_asked 11 = .ok (.iconst 0, 1) := dk_3 (dk_at dksX0_asked_0 11 rfl rfl)
theorem dX0_asked_12 : decode cX0_asked 12 = .ok (.istore_n 2, 1) := dk_61 (dk_at dksX0_asked_0 12 rfl rfl)
theorem dX0_asked_13 : decode cX0_asked 13 = .ok (.iload_n 2, 1) := dk_28 (dk_at dksX0_asked_0 13 rfl rfl)
theorem dX0_asked_14 : decode cX0_asked 14 = .ok (.iconst 1, 1) := dk_4 (dk_at dksX0_asked_0 14 rfl rfl)
theorem dX0_asked_15 : decode cX0_asked 15 = .ok (.aload_n 0, 1) := dk_42 (dk_at dksX0_asked_0 15 rfl rfl)
theorem dX0_asked_16 : decode cX0_asked 16 = .ok (.invokevirtual 169, 3) := dk_182 0 169 (dk_at dksX0_asked_0 16 rfl rfl)
theorem dX0_asked_19 : decode cX0_asked 19 = .ok (.ishl, 1) := dk_120 (dk_at dksX0_asked_0 19 rfl rfl)
theorem dX0_asked_20 : decode cX0_asked 20 = .ok (.if_icmp .ge 135, 3) := dk_162 0 135 (dk_at dksX0_asked_0 20 rfl rfl)
theorem dX0_asked_23 : decode cX0_asked 23 = .ok (.iload_n 1, 1) := dk_27 (dk_at dksX0_asked_0 23 rfl rfl)
theorem dX0_asked_24 : decode cX0_asked 24 = .ok (.iconst (-1), 1) := dk_2 (dk_at dksX0_asked_1 0 rfl rfl)
theorem dX0_asked_25 : decode cX0_asked 25 = .ok (.if_icmp .eq 17, 3) := dk_159 0 17 (dk_at dksX0_asked_1 1 rfl rfl)
theorem dX0_asked_28 : decode cX0_asked 28 = .ok (.iload_n 2, 1) := dk_28 (dk_at dksX0_asked_1 4 rfl rfl)
theorem dX0_asked_29 : decode cX0_asked 29 = .ok (.invokestatic 182, 3) := dk_184 0 182 (dk_at dksX0_asked_1 5 rfl rfl)
theorem dX0_asked_32 : decode cX0_asked 32 = .ok (.iload_n 1, 1) := dk_27 (dk_at dksX0_asked_1 8 rfl rfl)
theorem dX0_asked_33 : decode cX0_asked 33 = .ok (.invokestatic 182, 3) := dk_184 0 182 (dk_at dksX0_asked_1 9 rfl rfl)
theorem dX0_asked_36 : decode cX0_asked 36 = .ok (.if_icmp .lt 6, 3) := dk_161 0 6 (dk_at dksX0_asked_1 12 rfl rfl)
theorem dX0_asked_39 : decode cX0_asked 39 = .ok (.goto 110, 3) := dk_167 0 110 (dk_at dksX0_asked_1 15 rfl rfl)
theorem dX0_asked_42 : decode cX0_asked 42 = .ok (.aload_n 0, 1) := dk_42 (dk_at dksX0_asked_1 18 rfl rfl)
theorem dX0_asked_43 : decode cX0_asked 43 = .ok (.getfield 87, 3) := dk_180 0 87 (dk_at dksX0_asked_1 19 rfl rfl)
theorem dX0_asked_46 : decode cX0_asked 46 = .ok (.aload_n 0, 1) := dk_42 (dk_at dksX0_asked_1 22 rfl rfl)
theorem dX0_asked_47 : decode cX0_asked 47 = .ok (.getfield 83, 3) := dk_180 0 83 (dk_at dksX0_asked_2 0 rfl rfl)
theorem dX0_asked_50 : decode cX0_asked 50 = .ok (.invokevirtual 295, 3) := dk_182 1 39 (dk_at dksX0_asked_2 3 rfl rfl)
theorem dX0_asked_53 : decode cX0_asked 53 = .ok (.pop, 1) := dk_87 (dk_at dksX0_asked_2 6 rfl rfl)
theorem dX0_asked_54 : decode cX0_asked 54 = .ok (.iconst 0, 1) := dk_3 (dk_at dksX0_asked_2 7 rfl rfl)
theorem dX0_asked_55 : decode cX0_asked 55 = .ok (.istore_n 3, 1) := dk_62 (dk_at dksX0_asked_2 8 rfl rfl)
theorem dX0_asked_56 : decode cX0_asked 56 = .ok (.iload_n 3, 1) := dk_29 (dk_at dksX0_asked_2 9 rfl rfl)
theorem dX0_asked_57 : decode cX0_asked 57 = .ok (.aload_n 0, 1) := dk_42 (dk_at dksX0_asked_2 10 rfl rfl)
theorem dX0_asked_58 : decode cX0_asked 58 = .ok (.invokevirtual 169, 3) := dk_182 0 169 (dk_at dksX0_asked_2 11 rfl rfl)
theorem dX0_asked_61 : decode cX0_asked 61 = .ok (.if_icmp .ge 69, 3) := dk_162 0 69 (dk_at dksX0_asked_2 14 rfl rfl)
theorem dX0_asked_64 : decode cX0_asked 64 = .ok (.aload_n 0, 1) := dk_42 (dk_at dksX0_asked_2 17 rfl rfl)
theorem dX0_asked_65 : decode cX0_asked 65 = .ok (.getfield 87, 3) := dk_180 0 87 (dk_at dksX0_asked_2 18 rfl rfl)
theorem dX0_asked_68 : decode cX0_asked 68 = .ok (.getfield 220, 3) := dk_180 0 220 (dk_at dksX0_asked_2 21 rfl rfl)
theorem dX0_asked_71 : decode cX0_asked 71 = .ok (.iload_n 3, 1) := dk_29 (dk_at dksX0_asked_3 0 rfl rfl)
theorem dX0_asked_72 : decode cX0_asked 72 = .ok (.iload_n 2, 1) := dk_28 (dk_at dksX0_asked_3 1 rfl rfl)
theorem dX0_asked_73 : decode cX0_asked 73 = .ok (.iload_n 3, 1) := dk_29 (dk_at dksX0_asked_3 2 rfl rfl)
theorem dX0_asked_74 : decode cX0_asked 74 = .ok (.invokestatic 238, 3) := dk_184 0 238 (dk_at dksX0_asked_3 3 rfl rfl)
theorem dX0_asked_77 : decode cX0_asked 77 = .ok (.ifCond .eq 7, 3) := dk_153 0 7 (dk_at dksX0_asked_3 6 rfl rfl)
theorem dX0_asked_80 : decode cX0_asked 80 = .ok (.iconst 0, 1) := dk_3 (dk_at dksX0_asked_3 9 rfl rfl)
theorem dX0_asked_81 : decode cX0_asked 81 = .ok (.goto 12, 3) := dk_167 0 12 (dk_at dksX0_asked_3 10 rfl rfl)
theorem dX0_asked_84 : decode cX0_asked 84 = .ok (.aload_n 0, 1) := dk_42 (dk_at dksX0_asked_3 13 rfl rfl)
theorem dX0_asked_85 : decode cX0_asked 85 = .ok (.getfield 83, 3) := dk_180 0 83 (dk_at dksX0_asked_3 14 rfl rfl)
theorem dX0_asked_88 : decode cX0_asked 88 = .ok (.getfield 220, 3) := dk_180 0 220 (dk_at dksX0_asked_3 17 rfl rfl)
theorem dX0_asked_91 : decode cX0_asked 91 = .ok (.iload_n 3, 1) := dk_29 (dk_at dksX0_asked_3 20 rfl rfl)
theorem dX0_asked_92 : decode cX0_asked 92 = .ok (.iaload, 1) := dk_46 (dk_at dksX0_asked_3 21 rfl rfl)
theorem dX0_asked_93 : decode cX0_asked 93 = .ok (.iastore, 1) := dk_79 (dk_at dksX0_asked_3 22 rfl rfl)
theorem dX0_asked_94 : decode cX0_asked 94 = .ok (.aload_n 0, 1) := dk_42 (dk_at dksX0_asked_3 23 rfl rfl)
theorem dX0_asked_95 : decode cX0_asked 95 = .ok (.getfield 87, 3) := dk_180 0 87 (dk_at dksX0_asked_4 0 rfl rfl)
theorem dX0_asked_98 : decode cX0_asked 98 = .ok (.getfield 223, 3) := dk_180 0 223 (dk_at dksX0_asked_4 3 rfl rfl)
theorem dX0_asked_101 : decode cX0_asked 101 = .ok (.iload_n 3, 1) := dk_29 (dk_at dksX0_asked_4 6 rfl rfl)
theorem dX0_asked_102 : decode cX0_asked 102 = .ok (.iload_n 2, 1) := dk_28 (dk_at dksX0_asked_4 7 rfl rfl)
theorem dX0_asked_103 : decode cX0_asked 103 = .ok (.iload_n 3, 1) := dk_29 (dk_at dksX0_asked_4 8 rfl rfl)
theorem dX0_asked_104 : decode cX0_asked 104 = .ok (.invokestatic 238, 3) := dk_184 0 238 (dk_at dksX0_asked_4 9 rfl rfl)
theorem dX0_asked_107 : decode cX0_asked 107 = .ok (.ifCond .eq 7, 3) := dk_153 0 7 (dk_at dksX0_asked_4 12 rfl rfl)
theorem dX0_asked_110 : decode cX0_asked 110 = .ok (.iconst 0, 1) := dk_3 (dk_at dksX0_asked_4 15 rfl rfl)
theorem dX0_asked_111 : decode cX0_asked 111 = .ok (.goto 12, 3) := dk_167 0 12 (dk_at dksX0_asked_4 16 rfl rfl)
theorem dX0_asked_114 : decode cX0_asked 114 = .ok (.aload_n 0, 1) := dk_42 (dk_at dksX0_asked_4 19 rfl rfl)
theorem dX0_asked_115 : decode cX0_asked 115 = .ok (.getfield 83, 3) := dk_180 0 83 (dk_at dksX0_asked_4 20 rfl rfl)
theorem dX0_asked_118 : decode cX0_asked 118 = .ok (.getfield 223, 3) := dk_180 0 223 (dk_at dksX0_asked_5 0 rfl rfl)
theorem dX0_asked_121 : decode cX0_asked 121 = .ok (.iload_n 3, 1) := dk_29 (dk_at dksX0_asked_5 3 rfl rfl)
theorem dX0_asked_122 : decode cX0_asked 122 = .ok (.iaload, 1) := dk_46 (dk_at dksX0_asked_5 4 rfl rfl)
theorem dX0_asked_123 : decode cX0_asked 123 = .ok (.iastore, 1) := dk_79 (dk_at dksX0_asked_5 5 rfl rfl)
theorem dX0_asked_124 : decode cX0_asked 124 = .ok (.iinc 3 1, 3) := dk_132 3 1 (dk_at dksX0_asked_5 6 rfl rfl)
theorem dX0_asked_127 : decode cX0_asked 127 = .ok (.goto (-71), 3) := dk_167 255 185 (dk_at dksX0_asked_5 9 rfl rfl)
theorem dX0_asked_130 : decode cX0_asked 130 = .ok (.aload_n 0, 1) := dk_42 (dk_at dksX0_asked_5 12 rfl rfl)
theorem dX0_asked_131 : decode cX0_asked 131 = .ok (.getfield 69, 3) := dk_180 0 69 (dk_at dksX0_asked_5 13 rfl rfl)
theorem dX0_asked_134 : decode cX0_asked 134 = .ok (.aload_n 0, 1) := dk_42 (dk_at dksX0_asked_5 16 rfl rfl)
theorem dX0_asked_135 : decode cX0_asked 135 = .ok (.getfield 87, 3) := dk_180 0 87 (dk_at dksX0_asked_5 17 rfl rfl)
theorem dX0_asked_138 : decode cX0_asked 138 = .ok (.invokevirtual 232, 3) := dk_182 0 232 (dk_at dksX0_asked_5 20 rfl rfl)
theorem dX0_asked_141 : decode cX0_asked 141 = .ok (.invokevirtual 235, 3) := dk_182 0 235 (dk_at dksX0_asked_6 0 rfl rfl)
theorem dX0_asked_144 : decode cX0_asked 144 = .ok (.ifCond .ne 5, 3) := dk_154 0 5 (dk_at dksX0_asked_6 3 rfl rfl)
theorem dX0_asked_147 : decode cX0_asked 147 = .ok (.iload_n 2, 1) := dk_28 (dk_at dksX0_asked_6 6 rfl rfl)
theorem dX0_asked_148 : decode cX0_asked 148 = .ok (.istore_n 1, 1) := dk_60 (dk_at dksX0_asked_6 7 rfl rfl)
theorem dX0_asked_149 : decode cX0_asked 149 = .ok (.iinc 2 1, 3) := dk_132 2 1 (dk_at dksX0_asked_6 8 rfl rfl)
theorem dX0_asked_152 : decode cX0_asked 152 = .ok (.goto (-139), 3) := dk_167 255 117 (dk_at dksX0_asked_6 11 rfl rfl)
theorem dX0_asked_155 : decode cX0_asked 155 = .ok (.iload_n 1, 1) := dk_27 (dk_at dksX0_asked_6 14 rfl rfl)
theorem dX0_asked_156 : decode cX0_asked 156 = .ok (.ireturn, 1) := dk_172 (dk_at dksX0_asked_6 15 rfl rfl)
abbrev cX0_later : ByteArray := prog_1_method_36_code
def yX0_later : MethodName := ⟨RX0, "later", "(II)I"⟩
def dkwX0_later_2 : List UInt8 := [182, 1, 46, 87, 132, 3, 1, 167, 255, 240, 42, 180, 0, 87, 180, 1, 49, 27, 46, 172]
abbrev dktX0_later_2 : List UInt8 := dkwX0_later_2 ++ []
def dkwX0_later_1 : List UInt8 := [180, 0, 87, 42, 180, 0, 83, 182, 1, 39, 87, 3, 62, 29, 28, 163, 0, 17, 42, 180, 0, 87]
abbrev dktX0_later_1 : List UInt8 := dkwX0_later_1 ++ dktX0_later_2
def dkwX0_later_0 : List UInt8 := [42, 27, 182, 0, 216, 153, 0, 16, 42, 28, 4, 96, 4, 16, 61, 182, 1, 43, 154, 0, 5, 2, 172, 42]
abbrev dktX0_later_0 : List UInt8 := dkwX0_later_0 ++ dktX0_later_1
theorem dksX0_later_0 : cX0_later.data.toList.drop 0 = dktX0_later_0 := by decide +kernel
theorem dksX0_later_1 : cX0_later.data.toList.drop 24 = dktX0_later_1 := dk_seg dksX0_later_0 24 rfl rfl
theorem dksX0_later_2 : cX0_later.data.toList.drop 46 = dktX0_later_2 := dk_seg dksX0_later_1 22 rfl rfl
theorem dX0_later_0 : decode cX0_later 0 = .ok (.aload_n 0, 1) := dk_42 (dk_at dksX0_later_0 0 rfl rfl)
theorem dX0_later_1 : decode cX0_later 1 = .ok (.iload_n 1, 1) := dk_27 (dk_at dksX0_later_0 1 rfl rfl)
theorem dX0_later_2 : decode cX0_later 2 = .ok (.invokevirtual 216, 3) := dk_182 0 216 (dk_at dksX0_later_0 2 rfl rfl)
theorem dX0_later_5 : decode cX0_later 5 = .ok (.ifCond .eq 16, 3) := dk_153 0 16 (dk_at dksX0_later_0 5 rfl rfl)
theorem dX0_later_8 : decode cX0_later 8 = .ok (.aload_n 0, 1) := dk_42 (dk_at dksX0_later_0 8 rfl rfl)
theorem dX0_later_9 : decode cX0_later 9 = .ok (.iload_n 2, 1) := dk_28 (dk_at dksX0_later_0 9 rfl rfl)
theorem dX0_later_10 : decode cX0_later 10 = .ok (.iconst 1, 1) := dk_4 (dk_at dksX0_later_0 10 rfl rfl)
theorem dX0_later_11 : decode cX0_later 11 = .ok (.iadd, 1) := dk_96 (dk_at dksX0_later_0 11 rfl rfl)
theorem dX0_later_12 : decode cX0_later 12 = .ok (.iconst 1, 1) := dk_4 (dk_at dksX0_later_0 12 rfl rfl)
theorem dX0_later_13 : decode cX0_later 13 = .ok (.bipush 61, 2) := dk_16 61 (dk_at dksX0_later_0 13 rfl rfl)
theorem dX0_later_15 : decode cX0_later 15 = .ok (.invokevirtual 299, 3) := dk_182 1 43 (dk_at dksX0_later_0 15 rfl rfl)
theorem dX0_later_18 : decode cX0_later 18 = .ok (.ifCond .ne 5, 3) := dk_154 0 5 (dk_at dksX0_later_0 18 rfl rfl)
theorem dX0_later_21 : decode cX0_later 21 = .ok (.iconst (-1), 1) := dk_2 (dk_at dksX0_later_0 21 rfl rfl)
theorem dX0_later_22 : decode cX0_later 22 = .ok (.ireturn, 1) := dk_172 (dk_at dksX0_later_0 22 rfl rfl)
theorem dX0_later_23 : decode cX0_later 23 = .ok (.aload_n 0, 1) := dk_42 (dk_at dksX0_later_0 23 rfl rfl)
theorem dX0_later_24 : decode cX0_later 24 = .ok (.getfield 87, 3) := dk_180 0 87 (dk_at dksX0_later_1 0 rfl rfl)
theorem dX0_later_27 : decode cX0_later 27 = .ok (.aload_n 0, 1) := dk_42 (dk_at dksX0_later_1 3 rfl rfl)
theorem dX0_later_28 : decode cX0_later 28 = .ok (.getfield 83, 3) := dk_180 0 83 (dk_at dksX0_later_1 4 rfl rfl)
theorem dX0_later_31 : decode cX0_later 31 = .ok (.invokevirtual 295, 3) := dk_182 1 39 (dk_at dksX0_later_1 7 rfl rfl)
theorem dX0_later_34 : decode cX0_later 34 = .ok (.pop, 1) := dk_87 (dk_at dksX0_later_1 10 rfl rfl)
theorem dX0_later_35 : decode cX0_later 35 = .ok (.iconst 0, 1) := dk_3 (dk_at dksX0_later_1 11 rfl rfl)
theorem dX0_later_36 : decode cX0_later 36 = .ok (.istore_n 3, 1) := dk_62 (dk_at dksX0_later_1 12 rfl rfl)
theorem dX0_later_37 : decode cX0_later 37 = .ok (.iload_n 3, 1) := dk_29 (dk_at dksX0_later_1 13 rfl rfl)
theorem dX0_later_38 : decode cX0_later 38 = .ok (.iload_n 2, 1) := dk_28 (dk_at dksX0_later_1 14 rfl rfl)
theorem dX0_later_39 : decode cX0_later 39 = .ok (.if_icmp .gt 17, 3) := dk_163 0 17 (dk_at dksX0_later_1 15 rfl rfl)
theorem dX0_later_42 : decode cX0_later 42 = .ok (.aload_n 0, 1) := dk_42 (dk_at dksX0_later_1 18 rfl rfl)
theorem dX0_later_43 : decode cX0_later 43 = .ok (.getfield 87, 3) := dk_180 0 87 (dk_at dksX0_later_1 19 rfl rfl)
theorem dX0_later_46 : decode cX0_later 46 = .ok (.invokevirtual 302, 3) := dk_182 1 46 (dk_at dksX0_later_2 0 rfl rfl)
theorem dX0_later_49 : decode cX0_later 49 = .ok (.pop, 1) := dk_87 (dk_at dksX0_later_2 3 rfl rfl)
theorem dX0_later_50 : decode cX0_later 50 = .ok (.iinc 3 1, 3) := dk_132 3 1 (dk_at dksX0_later_2 4 rfl rfl)
theorem dX0_later_53 : decode cX0_later 53 = .ok (.goto (-16), 3) := dk_167 255 240 (dk_at dksX0_later_2 7 rfl rfl)
theorem dX0_later_56 : decode cX0_later 56 = .ok (.aload_n 0, 1) := dk_42 (dk_at dksX0_later_2 10 rfl rfl)
theorem dX0_later_57 : decode cX0_later 57 = .ok (.getfield 87, 3) := dk_180 0 87 (dk_at dksX0_later_2 11 rfl rfl)
theorem dX0_later_60 : decode cX0_later 60 = .ok (.getfield 305, 3) := dk_180 1 49 (dk_at dksX0_later_2 14 rfl rfl)
theorem dX0_later_63 : decode cX0_later 63 = .ok (.iload_n 1, 1) := dk_27 (dk_at dksX0_later_2 17 rfl rfl)
theorem dX0_later_64 : decode cX0_later 64 = .ok (.iaload, 1) := dk_46 (dk_at dksX0_later_2 18 rfl rfl)
theorem dX0_later_65 : decode cX0_later 65 = .ok (.ireturn, 1) := dk_172 (dk_at dksX0_later_2 19 rfl rfl)
abbrev cX0_isAhead : ByteArray := prog_1_method_35_code
def yX0_isAhead : MethodName := ⟨RX0, "isAhead", "(III)Z"⟩
def dkwX0_isAhead_1 : List UInt8 := [96, 17, 3, 231, 163, 0, 7, 4, 167, 0, 4, 3, 172]
abbrev dktX0_isAhead_1 : List UInt8 := dkwX0_isAhead_1 ++ []
def dkwX0_isAhead_0 : List UInt8 := [42, 182, 1, 6, 153, 0, 31, 27, 28, 29, 184, 0, 193, 153, 0, 22, 42, 180, 0, 83, 180, 0, 176, 27]
abbrev dktX0_isAhead_0 : List UInt8 := dkwX0_isAhead_0 ++ dktX0_isAhead_1
theorem dksX0_isAhead_0 : cX0_isAhead.data.toList.drop 0 = dktX0_isAhead_0 := by decide +kernel
theorem dksX0_isAhead_1 : cX0_isAhead.data.toList.drop 24 = dktX0_isAhead_1 := dk_seg dksX0_isAhead_0 24 rfl rfl
theorem dX0_isAhead_0 : decode cX0_isAhead 0 = .ok (.aload_n 0, 1) := dk_42 (dk_at dksX0_isAhead_0 0 rfl rfl)
theorem dX0_isAhead_1 : decode cX0_isAhead 1 = .ok (.invokevirtual 262, 3) := dk_182 1 6 (dk_at dksX0_isAhead_0 1 rfl rfl)
theorem dX0_isAhead_4 : decode cX0_isAhead 4 = .ok (.ifCond .eq 31, 3) := dk_153 0 31 (dk_at dksX0_isAhead_0 4 rfl rfl)
theorem dX0_isAhead_7 : decode cX0_isAhead 7 = .ok (.iload_n 1, 1) := dk_27 (dk_at dksX0_isAhead_0 7 rfl rfl)
theorem dX0_isAhead_8 : decode cX0_isAhead 8 = .ok (.iload_n 2, 1) := dk_28 (dk_at dksX0_isAhead_0 8 rfl rfl)
theorem dX0_isAhead_9 : decode cX0_isAhead 9 = .ok (.iload_n 3, 1) := dk_29 (dk_at dksX0_isAhead_0 9 rfl rfl)
theorem dX0_isAhead_10 : decode cX0_isAhead 10 = .ok (.invokestatic 193, 3) := dk_184 0 193 (dk_at dksX0_isAhead_0 10 rfl rfl)
theorem dX0_isAhead_13 : decode cX0_isAhead 13 = .ok (.ifCond .eq 22, 3) := dk_153 0 22 (dk_at dksX0_isAhead_0 13 rfl rfl)
theorem dX0_isAhead_16 : decode cX0_isAhead 16 = .ok (.aload_n 0, 1) := dk_42 (dk_at dksX0_isAhead_0 16 rfl rfl)
theorem dX0_isAhead_17 : decode cX0_isAhead 17 = .ok (.getfield 83, 3) := dk_180 0 83 (dk_at dksX0_isAhead_0 17 rfl rfl)
theorem dX0_isAhead_20 : decode cX0_isAhead 20 = .ok (.getfield 176, 3) := dk_180 0 176 (dk_at dksX0_isAhead_0 20 rfl rfl)
theorem dX0_isAhead_23 : decode cX0_isAhead 23 = .ok (.iload_n 1, 1) := dk_27 (dk_at dksX0_isAhead_0 23 rfl rfl)
theorem dX0_isAhead_24 : decode cX0_isAhead 24 = .ok (.iadd, 1) := dk_96 (dk_at dksX0_isAhead_1 0 rfl rfl)
theorem dX0_isAhead_25 : decode cX0_isAhead 25 = .ok (.sipush 999, 3) := dk_17 3 231 (dk_at dksX0_isAhead_1 1 rfl rfl)
theorem dX0_isAhead_28 : decode cX0_isAhead 28 = .ok (.if_icmp .gt 7, 3) := dk_163 0 7 (dk_at dksX0_isAhead_1 4 rfl rfl)
theorem dX0_isAhead_31 : decode cX0_isAhead 31 = .ok (.iconst 1, 1) := dk_4 (dk_at dksX0_isAhead_1 7 rfl rfl)
theorem dX0_isAhead_32 : decode cX0_isAhead 32 = .ok (.goto 4, 3) := dk_167 0 4 (dk_at dksX0_isAhead_1 8 rfl rfl)
theorem dX0_isAhead_35 : decode cX0_isAhead 35 = .ok (.iconst 0, 1) := dk_3 (dk_at dksX0_isAhead_1 11 rfl rfl)
theorem dX0_isAhead_36 : decode cX0_isAhead 36 = .ok (.ireturn, 1) := dk_172 (dk_at dksX0_isAhead_1 12 rfl rfl)
abbrev cX0_tone : ByteArray := prog_1_method_37_code
def yX0_tone : MethodName := ⟨RX0, "tone", "(II)I"⟩
def dkwX0_tone_2 : List UInt8 := [182, 1, 46, 87, 132, 3, 1, 167, 255, 240, 42, 180, 0, 87, 180, 0, 226, 27, 46, 172]
abbrev dktX0_tone_2 : List UInt8 := dkwX0_tone_2 ++ []
def dkwX0_tone_1 : List UInt8 := [180, 0, 87, 42, 180, 0, 83, 182, 1, 39, 87, 3, 62, 29, 28, 162, 0, 17, 42, 180, 0, 87]
abbrev dktX0_tone_1 : List UInt8 := dkwX0_tone_1 ++ dktX0_tone_2
def dkwX0_tone_0 : List UInt8 := [42, 27, 182, 0, 216, 153, 0, 14, 42, 28, 3, 16, 60, 182, 1, 43, 154, 0, 5, 2, 172, 42]
abbrev dktX0_tone_0 : List UInt8 := dkwX0_tone_0 ++ dktX0_tone_1
theorem dksX0_tone_0 : cX0_tone.data.toList.drop 0 = dktX0_tone_0 := by decide +kernel
theorem dksX0_tone_1 : cX0_tone.data.toList.drop 22 = dktX0_tone_1 := dk_seg dksX0_tone_0 22 rfl rfl
theorem dksX0_tone_2 : cX0_tone.data.toList.drop 44 = dktX0_tone_2 := dk_seg dksX0_tone_1 22 rfl rfl
theorem dX0_tone_0 : decode cX0_tone 0 = .ok (.aload_n 0, 1) := dk_42 (dk_at dksX0_tone_0 0 rfl rfl)
theorem dX0_tone_1 : decode cX0_tone 1 = .ok (.iload_n 1, 1) := dk_27 (dk_at dksX0_tone_0 1 rfl rfl)
theorem dX0_tone_2 : decode cX0_tone 2 = .ok (.invokevirtual 216, 3) := dk_182 0 216 (dk_at dksX0_tone_0 2 rfl rfl)
theorem dX0_tone_5 : decode cX0_tone 5 = .ok (.ifCond .eq 14, 3) := dk_153 0 14 (dk_at dksX0_tone_0 5 rfl rfl)
theorem dX0_tone_8 : decode cX0_tone 8 = .ok (.aload_n 0, 1) := dk_42 (dk_at dksX0_tone_0 8 rfl rfl)
theorem dX0_tone_9 : decode cX0_tone 9 = .ok (.iload_n 2, 1) := dk_28 (dk_at dksX0_tone_0 9 rfl rfl)
theorem dX0_tone_10 : decode cX0_tone 10 = .ok (.iconst 0, 1) := dk_3 (dk_at dksX0_tone_0 10 rfl rfl)
theorem dX0_tone_11 : decode cX0_tone 11 = .ok (.bipush 60, 2) := dk_16 60 (dk_at dksX0_tone_0 11 rfl rfl)
theorem dX0_tone_13 : decode cX0_tone 13 = .ok (.invokevirtual 299, 3) := dk_182 1 43 (dk_at dksX0_tone_0 13 rfl rfl)
theorem dX0_tone_16 : decode cX0_tone 16 = .ok (.ifCond .ne 5, 3) := dk_154 0 5 (dk_at dksX0_tone_0 16 rfl rfl)
theorem dX0_tone_19 : decode cX0_tone 19 = .ok (.iconst (-1), 1) := dk_2 (dk_at dksX0_tone_0 19 rfl rfl)
theorem dX0_tone_20 : decode cX0_tone 20 = .ok (.ireturn, 1) := dk_172 (dk_at dksX0_tone_0 20 rfl rfl)
theorem dX0_tone_21 : decode cX0_tone 21 = .ok (.aload_n 0, 1) := dk_42 (dk_at dksX0_tone_0 21 rfl rfl)
theorem dX0_tone_22 : decode cX0_tone 22 = .ok (.getfield 87, 3) := dk_180 0 87 (dk_at dksX0_tone_1 0 rfl rfl)
theorem dX0_tone_25 : decode cX0_tone 25 = .ok (.aload_n 0, 1) := dk_42 (dk_at dksX0_tone_1 3 rfl rfl)
theorem dX0_tone_26 : decode cX0_tone 26 = .ok (.getfield 83, 3) := dk_180 0 83 (dk_at dksX0_tone_1 4 rfl rfl)
theorem dX0_tone_29 : decode cX0_tone 29 = .ok (.invokevirtual 295, 3) := dk_182 1 39 (dk_at dksX0_tone_1 7 rfl rfl)
theorem dX0_tone_32 : decode cX0_tone 32 = .ok (.pop, 1) := dk_87 (dk_at dksX0_tone_1 10 rfl rfl)
theorem dX0_tone_33 : decode cX0_tone 33 = .ok (.iconst 0, 1) := dk_3 (dk_at dksX0_tone_1 11 rfl rfl)
theorem dX0_tone_34 : decode cX0_tone 34 = .ok (.istore_n 3, 1) := dk_62 (dk_at dksX0_tone_1 12 rfl rfl)
theorem dX0_tone_35 : decode cX0_tone 35 = .ok (.iload_n 3, 1) := dk_29 (dk_at dksX0_tone_1 13 rfl rfl)
theorem dX0_tone_36 : decode cX0_tone 36 = .ok (.iload_n 2, 1) := dk_28 (dk_at dksX0_tone_1 14 rfl rfl)
theorem dX0_tone_37 : decode cX0_tone 37 = .ok (.if_icmp .ge 17, 3) := dk_162 0 17 (dk_at dksX0_tone_1 15 rfl rfl)
theorem dX0_tone_40 : decode cX0_tone 40 = .ok (.aload_n 0, 1) := dk_42 (dk_at dksX0_tone_1 18 rfl rfl)
theorem dX0_tone_41 : decode cX0_tone 41 = .ok (.getfield 87, 3) := dk_180 0 87 (dk_at dksX0_tone_1 19 rfl rfl)
theorem dX0_tone_44 : decode cX0_tone 44 = .ok (.invokevirtual 302, 3) := dk_182 1 46 (dk_at dksX0_tone_2 0 rfl rfl)
theorem dX0_tone_47 : decode cX0_tone 47 = .ok (.pop, 1) := dk_87 (dk_at dksX0_tone_2 3 rfl rfl)
theorem dX0_tone_48 : decode cX0_tone 48 = .ok (.iinc 3 1, 3) := dk_132 3 1 (dk_at dksX0_tone_2 4 rfl rfl)
theorem dX0_tone_51 : decode cX0_tone 51 = .ok (.goto (-16), 3) := dk_167 255 240 (dk_at dksX0_tone_2 7 rfl rfl)
theorem dX0_tone_54 : decode cX0_tone 54 = .ok (.aload_n 0, 1) := dk_42 (dk_at dksX0_tone_2 10 rfl rfl)
theorem dX0_tone_55 : decode cX0_tone 55 = .ok (.getfield 87, 3) := dk_180 0 87 (dk_at dksX0_tone_2 11 rfl rfl)
theorem dX0_tone_58 : decode cX0_tone 58 = .ok (.getfield 226, 3) := dk_180 0 226 (dk_at dksX0_tone_2 14 rfl rfl)
theorem dX0_tone_61 : decode cX0_tone 61 = .ok (.iload_n 1, 1) := dk_27 (dk_at dksX0_tone_2 17 rfl rfl)
theorem dX0_tone_62 : decode cX0_tone 62 = .ok (.iaload, 1) := dk_46 (dk_at dksX0_tone_2 18 rfl rfl)
theorem dX0_tone_63 : decode cX0_tone 63 = .ok (.ireturn, 1) := dk_172 (dk_at dksX0_tone_2 19 rfl rfl)
abbrev cX0_mute : ByteArray := prog_1_method_38_code
def yX0_mute : MethodName := ⟨RX0, "mute", "()I"⟩
def dkwX0_mute_1 : List UInt8 := [153, 0, 21, 42, 180, 0, 87, 182, 1, 46, 154, 0, 5, 27, 172, 132, 1, 1, 167, 255, 228, 2, 172]
abbrev dktX0_mute_1 : List UInt8 := dkwX0_mute_1 ++ []
def dkwX0_mute_0 : List UInt8 := [42, 180, 0, 87, 42, 180, 0, 83, 182, 1, 39, 87, 3, 60, 42, 27, 4, 96, 4, 16, 61, 182, 1, 43]
abbrev dktX0_mute_0 : List UInt8 := dkwX0_mute_0 ++ dktX0_mute_1
theorem dksX0_mute_0 : cX0_mute.data.toList.drop 0 = dktX0_mute_0 := by decide +kernel
theorem dksX0_mute_1 : cX0_mute.data.toList.drop 24 = dktX0_mute_1 := dk_seg dksX0_mute_0 24 rfl rfl
theorem dX0_mute_0 : decode cX0_mute 0 = .ok (.aload_n 0, 1) := dk_42 (dk_at dksX0_mute_0 0 rfl rfl)
theorem dX0_mute_1 : decode cX0_mute 1 = .ok (.getfield 87, 3) := dk_180 0 87 (dk_at dksX0_mute_0 1 rfl rfl)
theorem dX0_mute_4 : decode cX0_mute 4 = .ok (.aload_n 0, 1) := dk_42 (dk_at dksX0_mute_0 4 rfl rfl)
theorem dX0_mute_5 : decode cX0_mute 5 = .ok (.getfield 83, 3) := dk_180 0 83 (dk_at dksX0_mute_0 5 rfl rfl)
theorem dX0_mute_8 : decode cX0_mute 8 = .ok (.invokevirtual 295, 3) := dk_182 1 39 (dk_at dksX0_mute_0 8 rfl rfl)
theorem dX0_mute_11 : decode cX0_mute 11 = .ok (.pop, 1) := dk_87 (dk_at dksX0_mute_0 11 rfl rfl)
theorem dX0_mute_12 : decode cX0_mute 12 = .ok (.iconst 0, 1) := dk_3 (dk_at dksX0_mute_0 12 rfl rfl)
theorem dX0_mute_13 : decode cX0_mute 13 = .ok (.istore_n 1, 1) := dk_60 (dk_at dksX0_mute_0 13 rfl rfl)
theorem dX0_mute_14 : decode cX0_mute 14 = .ok (.aload_n 0, 1) := dk_42 (dk_at dksX0_mute_0 14 rfl rfl)
theorem dX0_mute_15 : decode cX0_mute 15 = .ok (.iload_n 1, 1) := dk_27 (dk_at dksX0_mute_0 15 rfl rfl)
theorem dX0_mute_16 : decode cX0_mute 16 = .ok (.iconst 1, 1) := dk_4 (dk_at dksX0_mute_0 16 rfl rfl)
theorem dX0_mute_17 : decode cX0_mute 17 = .ok (.iadd, 1) := dk_96 (dk_at dksX0_mute_0 17 rfl rfl)
theorem dX0_mute_18 : decode cX0_mute 18 = .ok (.iconst 1, 1) := dk_4 (dk_at dksX0_mute_0 18 rfl rfl)
theorem dX0_mute_19 : decode cX0_mute 19 = .ok (.bipush 61, 2) := dk_16 61 (dk_at dksX0_mute_0 19 rfl rfl)
theorem dX0_mute_21 : decode cX0_mute 21 = .ok (.invokevirtual 299, 3) := dk_182 1 43 (dk_at dksX0_mute_0 21 rfl rfl)
theorem dX0_mute_24 : decode cX0_mute 24 = .ok (.ifCond .eq 21, 3) := dk_153 0 21 (dk_at dksX0_mute_1 0 rfl rfl)
theorem dX0_mute_27 : decode cX0_mute 27 = .ok (.aload_n 0, 1) := dk_42 (dk_at dksX0_mute_1 3 rfl rfl)
theorem dX0_mute_28 : decode cX0_mute 28 = .ok (.getfield 87, 3) := dk_180 0 87 (dk_at dksX0_mute_1 4 rfl rfl)
theorem dX0_mute_31 : decode cX0_mute 31 = .ok (.invokevirtual 302, 3) := dk_182 1 46 (dk_at dksX0_mute_1 7 rfl rfl)
theorem dX0_mute_34 : decode cX0_mute 34 = .ok (.ifCond .ne 5, 3) := dk_154 0 5 (dk_at dksX0_mute_1 10 rfl rfl)
theorem dX0_mute_37 : decode cX0_mute 37 = .ok (.iload_n 1, 1) := dk_27 (dk_at dksX0_mute_1 13 rfl rfl)
theorem dX0_mute_38 : decode cX0_mute 38 = .ok (.ireturn, 1) := dk_172 (dk_at dksX0_mute_1 14 rfl rfl)
theorem dX0_mute_39 : decode cX0_mute 39 = .ok (.iinc 1 1, 3) := dk_132 1 1 (dk_at dksX0_mute_1 15 rfl rfl)
theorem dX0_mute_42 : decode cX0_mute 42 = .ok (.goto (-28), 3) := dk_167 255 228 (dk_at dksX0_mute_1 18 rfl rfl)
theorem dX0_mute_45 : decode cX0_mute 45 = .ok (.iconst (-1), 1) := dk_2 (dk_at dksX0_mute_1 21 rfl rfl)
theorem dX0_mute_46 : decode cX0_mute 46 = .ok (.ireturn, 1) := dk_172 (dk_at dksX0_mute_1 22 rfl rfl)
abbrev cX0_see : ByteArray := prog_1_method_40_code
def yX0_see : MethodName := ⟨RX0, "see", "()I"⟩
def dkwX0_see_8 : List UInt8 := [6, 29, 104, 5, 96, 182, 1, 51, 79, 132, 3, 1, 167, 255, 183, 42, 180, 0, 151, 172]
abbrev dktX0_see_8 : List UInt8 := dkwX0_see_8 ++ []
def dkwX0_see_7 : List UInt8 := [180, 0, 96, 29, 42, 6, 29, 104, 5, 96, 182, 1, 51, 17, 0, 255, 160, 0, 7, 2, 167, 0, 12, 42]
abbrev dktX0_see_7 : List UInt8 := dkwX0_see_7 ++ dktX0_see_8
def dkwX0_see_6 : List UInt8 := [6, 29, 104, 182, 1, 51, 79, 42, 180, 0, 93, 29, 42, 6, 29, 104, 4, 96, 182, 1, 51, 79, 42]
abbrev dktX0_see_6 : List UInt8 := dkwX0_see_6 ++ dktX0_see_7
def dkwX0_see_5 : List UInt8 := [172, 42, 27, 6, 108, 181, 0, 151, 3, 62, 29, 42, 180, 0, 151, 162, 0, 71, 42, 180, 0, 90, 29, 42]
abbrev dktX0_see_5 : List UInt8 := dkwX0_see_5 ++ dktX0_see_6
def dkwX0_see_4 : List UInt8 := [160, 0, 7, 4, 167, 0, 4, 3, 61, 132, 3, 3, 167, 255, 187, 28, 154, 0, 9, 42, 4, 182, 0, 118]
abbrev dktX0_see_4 : List UInt8 := dkwX0_see_4 ++ dktX0_see_5
def dkwX0_see_3 : List UInt8 := [29, 5, 96, 182, 1, 51, 182, 0, 242, 154, 0, 16, 42, 29, 5, 96, 182, 1, 51, 17, 0, 255]
abbrev dktX0_see_3 : List UInt8 := dkwX0_see_3 ++ dktX0_see_4
def dkwX0_see_2 : List UInt8 := [182, 1, 51, 16, 20, 163, 0, 48, 42, 42, 29, 4, 96, 182, 1, 51, 182, 0, 216, 153, 0, 34, 42, 42]
abbrev dktX0_see_2 : List UInt8 := dkwX0_see_2 ++ dktX0_see_3
def dkwX0_see_1 : List UInt8 := [16, 48, 163, 0, 7, 4, 167, 0, 4, 3, 61, 3, 62, 29, 27, 162, 0, 70, 28, 153, 0, 66, 42, 29]
abbrev dktX0_see_1 : List UInt8 := dkwX0_see_1 ++ dktX0_see_2
def dkwX0_see_0 : List UInt8 := [42, 182, 0, 129, 60, 42, 182, 1, 6, 153, 0, 23, 27, 158, 0, 19, 27, 6, 112, 154, 0, 13, 27]
abbrev dktX0_see_0 : List UInt8 := dkwX0_see_0 ++ dktX0_see_1
theorem dksX0_see_0 : cX0_see.data.toList.drop 0 = dktX0_see_0 := by decide +kernel
theorem dksX0_see_1 : cX0_see.data.toList.drop 23 = dktX0_see_1 := dk_seg dksX0_see_0 23 rfl rfl
theorem dksX0_see_2 : cX0_see.data.toList.drop 47 = dktX0_see_2 := dk_seg dksX0_see_1 24 rfl rfl
theorem dksX0_see_3 : cX0_see.data.toList.drop 71 = dktX0_see_3 := dk_seg dksX0_see_2 24 rfl rfl
theorem dksX0_see_4 : cX0_see.data.toList.drop 93 = dktX0_see_4 := dk_seg dksX0_see_3 22 rfl rfl
theorem dksX0_see_5 : cX0_see.data.toList.drop 117 = dktX0_see_5 := dk_seg dksX0_see_4 24 rfl rfl
theorem dksX0_see_6 : cX0_see.data.toList.drop 141 = dktX0_see_6 := dk_seg dksX0_see_5 24 rfl rfl
theorem dksX0_see_7 : cX0_see.data.toList.drop 164 = dktX0_see_7 := dk_seg dksX0_see_6 23 rfl rfl
theorem dksX0_see_8 : cX0_see.data.toList.drop 188 = dktX0_see_8 := dk_seg dksX0_see_7 24 rfl rfl
theorem dX0_see_0 : decode cX0_see 0 = .ok (.aload_n 0, 1) := dk_42 (dk_at dksX0_see_0 0 rfl rfl)
theorem dX0_see_1 : decode cX0_see 1 = .ok (.invokevirtual 129, 3) := dk_182 0 129 (dk_at dksX0_see_0 1 rfl rfl)
theorem dX0_see_4 : decode cX0_see 4 = .ok (.istore_n 1, 1) := dk_60 (dk_at dksX0_see_0 4 rfl rfl)
theorem dX0_see_5 : decode cX0_see 5 = .ok (.aload_n 0, 1) := dk_42 (dk_at dksX0_see_0 5 rfl rfl)
theorem dX0_see_6 : decode cX0_see 6 = .ok (.invokevirtual 262, 3) := dk_182 1 6 (dk_at dksX0_see_0 6 rfl rfl)
theorem dX0_see_9 : decode cX0_see 9 = .ok (.ifCond .eq 23, 3) := dk_153 0 23 (dk_at dksX0_see_0 9 rfl rfl)
theorem dX0_see_12 : decode cX0_see 12 = .ok (.iload_n 1, 1) := dk_27 (dk_at dksX0_see_0 12 rfl rfl)
theorem dX0_see_13 : decode cX0_see 13 = .ok (.ifCond .le 19, 3) := dk_158 0 19 (dk_at dksX0_see_0 13 rfl rfl)
theorem dX0_see_16 : decode cX0_see 16 = .ok (.iload_n 1, 1) := dk_27 (dk_at dksX0_see_0 16 rfl rfl)
theorem dX0_see_17 : decode cX0_see 17 = .ok (.iconst 3, 1) := dk_6 (dk_at dksX0_see_0 17 rfl rfl)
theorem dX0_see_18 : decode cX0_see 18 = .ok (.irem, 1) := dk_112 (dk_at dksX0_see_0 18 rfl rfl)
theorem dX0_see_19 : decode cX0_see 19 = .ok (.ifCond .ne 13, 3) := dk_154 0 13 (dk_at dksX0_see_0 19 rfl rfl)
theorem dX0_see_22 : decode cX0_see 22 = .ok (.iload_n 1, 1) := dk_27 (dk_at dksX0_see_0 22 rfl rfl)
theorem dX0_see_23 : decode cX0_see 23 = .ok (.bipush 48, 2) := dk_16 48 (dk_at dksX0_see_1 0 rfl rfl)
theorem dX0_see_25 : decode cX0_see 25 = .ok (.if_icmp .gt 7, 3) := dk_163 0 7 (dk_at dksX0_see_1 2 rfl rfl)
theorem dX0_see_28 : decode cX0_see 28 = .ok (.iconst 1, 1) := dk_4 (dk_at dksX0_see_1 5 rfl rfl)
theorem dX0_see_29 : decode cX0_see 29 = .ok (.goto 4, 3) := dk_167 0 4 (dk_at dksX0_see_1 6 rfl rfl)
theorem dX0_see_32 : decode cX0_see 32 = .ok (.iconst 0, 1) := dk_3 (dk_at dksX0_see_1 9 rfl rfl)
theorem dX0_see_33 : decode cX0_see 33 = .ok (.istore_n 2, 1) := dk_61 (dk_at dksX0_see_1 10 rfl rfl)
theorem dX0_see_34 : decode cX0_see 34 = .ok (.iconst 0, 1) := dk_3 (dk_at dksX0_see_1 11 rfl rfl)
theorem dX0_see_35 : decode cX0_see 35 = .ok (.istore_n 3, 1) := dk_62 (dk_at dksX0_see_1 12 rfl rfl)
theorem dX0_see_36 : decode cX0_see 36 = .ok (.iload_n 3, 1) := dk_29 (dk_at dksX0_see_1 13 rfl rfl)
theorem dX0_see_37 : decode cX0_see 37 = .ok (.iload_n 1, 1) := dk_27 (dk_at dksX0_see_1 14 rfl rfl)
theorem dX0_see_38 : decode cX0_see 38 = .ok (.if_icmp .ge 70, 3) := dk_162 0 70 (dk_at dksX0_see_1 15 rfl rfl)
theorem dX0_see_41 : decode cX0_see 41 = .ok (.iload_n 2, 1) := dk_28 (dk_at dksX0_see_1 18 rfl rfl)
theorem dX0_see_42 : decode cX0_see 42 = .ok (.ifCond .eq 66, 3) := dk_153 0 66 (dk_at dksX0_see_1 19 rfl rfl)
theorem dX0_see_45 : decode cX0_see 45 = .ok (.aload_n 0, 1) := dk_42 (dk_at dksX0_see_1 22 rfl rfl)
theorem dX0_see_46 : decode cX0_see 46 = .ok (.iload_n 3, 1) := dk_29 (dk_at dksX0_see_1 23 rfl rfl)
theorem dX0_see_47 : decode cX0_see 47 = .ok (.invokevirtual 307, 3) := dk_182 1 51 (dk_at dksX0_see_2 0 rfl rfl)
theorem dX0_see_50 : decode cX0_see 50 = .ok (.bipush 20, 2) := dk_16 20 (dk_at dksX0_see_2 3 rfl rfl)
theorem dX0_see_52 : decode cX0_see 52 = .ok (.if_icmp .gt 48, 3) := dk_163 0 48 (dk_at dksX0_see_2 5 rfl rfl)
theorem dX0_see_55 : decode cX0_see 55 = .ok (.aload_n 0, 1) := dk_42 (dk_at dksX0_see_2 8 rfl rfl)
theorem dX0_see_56 : decode cX0_see 56 = .ok (.aload_n 0, 1) := dk_42 (dk_at dksX0_see_2 9 rfl rfl)
theorem dX0_see_57 : decode cX0_see 57 = .ok (.iload_n 3, 1) := dk_29 (dk_at dksX0_see_2 10 rfl rfl)
theorem dX0_see_58 : decode cX0_see 58 = .ok (.iconst 1, 1) := dk_4 (dk_at dksX0_see_2 11 rfl rfl)
theorem dX0_see_59 : decode cX0_see 59 = .ok (.iadd, 1) := dk_96 (dk_at dksX0_see_2 12 rfl rfl)
theorem dX0_see_60 : decode cX0_see 60 = .ok (.invokevirtual 307, 3) := dk_182 1 51 (dk_at dksX0_see_2 13 rfl rfl)
theorem dX0_see_63 : decode cX0_see 63 = .ok (.invokevirtual 216, 3) := dk_182 0 216 (dk_at dksX0_see_2 16 rfl rfl)
theorem dX0_see_66 : decode cX0_see 66 = .ok (.ifCond .eq 34, 3) := dk_153 0 34 (dk_at dksX0_see_2 19 rfl rfl)
theorem dX0_see_69 : decode cX0_see 69 = .ok (.aload_n 0, 1) := dk_42 (dk_at dksX0_see_2 22 rfl rfl)
theorem dX0_see_70 : decode cX0_see 70 = .ok (.aload_n 0, 1) := dk_42 (dk_at dksX0_see_2 23 rfl rfl)
theorem dX0_see_71 : decode cX0_see 71 = .ok (.iload_n 3, 1) := dk_29 (dk_at dksX0_see_3 0 rfl rfl)
theorem dX0_see_72 : decode cX0_see 72 = .ok (.iconst 2, 1) := dk_5 (dk_at dksX0_see_3 1 rfl rfl)
theorem dX0_see_73 : decode cX0_see 73 = .ok (.iadd, 1) := dk_96 (dk_at dksX0_see_3 2 rfl rfl)
theorem dX0_see_74 : decode cX0_see 74 = .ok (.invokevirtual 307, 3) := dk_182 1 51 (dk_at dksX0_see_3 3 rfl rfl)
theorem dX0_see_77 : decode cX0_see 77 = .ok (.invokevirtual 242, 3) := dk_182 0 242 (dk_at dksX0_see_3 6 rfl rfl)
theorem dX0_see_80 : decode cX0_see 80 = .ok (.ifCond .ne 16, 3) := dk_154 0 16 (dk_at dksX0_see_3 9 rfl rfl)
theorem dX0_see_83 : decode cX0_see 83 = .ok (.aload_n 0, 1) := dk_42 (dk_at dksX0_see_3 12 rfl rfl)
theorem dX0_see_84 : decode cX0_see 84 = .ok (.iload_n 3, 1) := dk_29 (dk_at dksX0_see_3 13 rfl rfl)
theorem dX0_see_85 : decode cX0_see 85 = .ok (.iconst 2, 1) := dk_5 (dk_at dksX0_see_3 14 rfl rfl)
theorem dX0_see_86 : decode cX0_see 86 = .ok (.iadd, 1) := dk_96 (dk_at dksX0_see_3 15 rfl rfl)
theorem dX0_see_87 : decode cX0_see 87 = .ok (.invokevirtual 307, 3) := dk_182 1 51 (dk_at dksX0_see_3 16 rfl rfl)
theorem dX0_see_90 : decode cX0_see 90 = .ok (.sipush 255, 3) := dk_17 0 255 (dk_at dksX0_see_3 19 rfl rfl)
theorem dX0_see_93 : decode cX0_see 93 = .ok (.if_icmp .ne 7, 3) := dk_160 0 7 (dk_at dksX0_see_4 0 rfl rfl)
theorem dX0_see_96 : decode cX0_see 96 = .ok (.iconst 1, 1) := dk_4 (dk_at dksX0_see_4 3 rfl rfl)
theorem dX0_see_97 : decode cX0_see 97 = .ok (.goto 4, 3) := dk_167 0 4 (dk_at dksX0_see_4 4 rfl rfl)
theorem dX0_see_100 : decode cX0_see 100 = .ok (.iconst 0, 1) := dk_3 (dk_at dksX0_see_4 7 rfl rfl)
theorem dX0_see_101 : decode cX0_see 101 = .ok (.istore_n 2, 1) := dk_61 (dk_at dksX0_see_4 8 rfl rfl)
theorem dX0_see_102 : decode cX0_see 102 = .ok (.iinc 3 3, 3) := dk_132 3 3 (dk_at dksX0_see_4 9 rfl rfl)
theorem dX0_see_105 : decode cX0_see 105 = .ok (.goto (-69), 3) := dk_167 255 187 (dk_at dksX0_see_4 12 rfl rfl)
theorem dX0_see_108 : decode cX0_see 108 = .ok (.iload_n 2, 1) := dk_28 (dk_at dksX0_see_4 15 rfl rfl)
theorem dX0_see_109 : decode cX0_see 109 = .ok (.ifCond .ne 9, 3) := dk_154 0 9 (dk_at dksX0_see_4 16 rfl rfl)
theorem dX0_see_112 : decode cX0_see 112 = .ok (.aload_n 0, 1) := dk_42 (dk_at dksX0_see_4 19 rfl rfl)
theorem dX0_see_113 : decode cX0_see 113 = .ok (.iconst 1, 1) := dk_4 (dk_at dksX0_see_4 20 rfl rfl)
theorem dX0_see_114 : decode cX0_see 114 = .ok (.invokevirtual 118, 3) := dk_182 0 118 (dk_at dksX0_see_4 21 rfl rfl)
theorem dX0_see_117 : decode cX0_see 117 = .ok (.ireturn, 1) := dk_172 (dk_at dksX0_see_5 0 rfl rfl)
theorem dX0_see_118 : decode cX0_see 118 = .ok (.aload_n 0, 1) := dk_42 (dk_at dksX0_see_5 1 rfl rfl)
theorem dX0_see_119 : decode cX0_see 119 = .ok (.iload_n 1, 1) := dk_27 (dk_at dksX0_see_5 2 rfl rfl)
theorem dX0_see_120 : decode cX0_see 120 = .ok (.iconst 3, 1) := dk_6 (dk_at dksX0_see_5 3 rfl rfl)
theorem dX0_see_121 : decode cX0_see 121 = .ok (.idiv, 1) := dk_108 (dk_at dksX0_see_5 4 rfl rfl)
theorem dX0_see_122 : decode cX0_see 122 = .ok (.putfield 151, 3) := dk_181 0 151 (dk_at dksX0_see_5 5 rfl rfl)
theorem dX0_see_125 : decode cX0_see 125 = .ok (.iconst 0, 1) := dk_3 (dk_at dksX0_see_5 8 rfl rfl)
theorem dX0_see_126 : decode cX0_see 126 = .ok (.istore_n 3, 1) := dk_62 (dk_at dksX0_see_5 9 rfl rfl)
theorem dX0_see_127 : decode cX0_see 127 = .ok (.iload_n 3, 1) := dk_29 (dk_at dksX0_see_5 10 rfl rfl)
theorem dX0_see_128 : decode cX0_see 128 = .ok (.aload_n 0, 1) := dk_42 (dk_at dksX0_see_5 11 rfl rfl)
theorem dX0_see_129 : decode cX0_see 129 = .ok (.getfield 151, 3) := dk_180 0 151 (dk_at dksX0_see_5 12 rfl rfl)
theorem dX0_see_132 : decode cX0_see 132 = .ok (.if_icmp .ge 71, 3) := dk_162 0 71 (dk_at dksX0_see_5 15 rfl rfl)
theorem dX0_see_135 : decode cX0_see 135 = .ok (.aload_n 0, 1) := dk_42 (dk_at dksX0_see_5 18 rfl rfl)
theorem dX0_see_136 : decode cX0_see 136 = .ok (.getfield 90, 3) := dk_180 0 90 (dk_at dksX0_see_5 19 rfl rfl)
theorem dX0_see_139 : decode cX0_see 139 = .ok (.iload_n 3, 1) := dk_29 (dk_at dksX0_see_5 22 rfl rfl)
theorem dX0_see_140 : decode cX0_see 140 = .ok (.aload_n 0, 1) := dk_42 (dk_at dksX0_see_5 23 rfl rfl)
theorem dX0_see_141 : decode cX0_see 141 = .ok (.iconst 3, 1) := dk_6 (dk_at dksX0_see_6 0 rfl rfl)
theorem dX0_see_142 : decode cX0_see 142 = .ok (.iload_n 3, 1) := dk_29 (dk_at dksX0_see_6 1 rfl rfl)
theorem dX0_see_143 : decode cX0_see 143 = .ok (.imul, 1) := dk_104 (dk_at dksX0_see_6 2 rfl rfl)
theorem dX0_see_144 : decode cX0_see 144 = .ok (.invokevirtual 307, 3) := dk_182 1 51 (dk_at dksX0_see_6 3 rfl rfl)
theorem dX0_see_147 : decode cX0_see 147 = .ok (.iastore, 1) := dk_79 (dk_at dksX0_see_6 6 rfl rfl)
theorem dX0_see_148 : decode cX0_see 148 = .ok (.aload_n 0, 1) := dk_42 (dk_at dksX0_see_6 7 rfl rfl)
theorem dX0_see_149 : decode cX0_see 149 = .ok (.getfield 93, 3) := dk_180 0 93 (dk_at dksX0_see_6 8 rfl rfl)
theorem dX0_see_152 : decode cX0_see 152 = .ok (.iload_n 3, 1) := dk_29 (dk_at dksX0_see_6 11 rfl rfl)
theorem dX0_see_153 : decode cX0_see 153 = .ok (.aload_n 0, 1) := dk_42 (dk_at dksX0_see_6 12 rfl rfl)
theorem dX0_see_154 : decode cX0_see 154 = .ok (.iconst 3, 1) := dk_6 (dk_at dksX0_see_6 13 rfl rfl)
theorem dX0_see_155 : decode cX0_see 155 = .ok (.iload_n 3, 1) := dk_29 (dk_at dksX0_see_6 14 rfl rfl)
theorem dX0_see_156 : decode cX0_see 156 = .ok (.imul, 1) := dk_104 (dk_at dksX0_see_6 15 rfl rfl)
theorem dX0_see_157 : decode cX0_see 157 = .ok (.iconst 1, 1) := dk_4 (dk_at dksX0_see_6 16 rfl rfl)
theorem dX0_see_158 : decode cX0_see 158 = .ok (.iadd, 1) := dk_96 (dk_at dksX0_see_6 17 rfl rfl)
theorem dX0_see_159 : decode cX0_see 159 = .ok (.invokevirtual 307, 3) := dk_182 1 51 (dk_at dksX0_see_6 18 rfl rfl)
theorem dX0_see_162 : decode cX0_see 162 = .ok (.iastore, 1) := dk_79 (dk_at dksX0_see_6 21 rfl rfl)
theorem dX0_see_163 : decode cX0_see 163 = .ok (.aload_n 0, 1) := dk_42 (dk_at dksX0_see_6 22 rfl rfl)
theorem dX0_see_164 : decode cX0_see 164 = .ok (.getfield 96, 3) := dk_180 0 96 (dk_at dksX0_see_7 0 rfl rfl)
theorem dX0_see_167 : decode cX0_see 167 = .ok (.iload_n 3, 1) := dk_29 (dk_at dksX0_see_7 3 rfl rfl)
theorem dX0_see_168 : decode cX0_see 168 = .ok (.aload_n 0, 1) := dk_42 (dk_at dksX0_see_7 4 rfl rfl)
theorem dX0_see_169 : decode cX0_see 169 = .ok (.iconst 3, 1) := dk_6 (dk_at dksX0_see_7 5 rfl rfl)
theorem dX0_see_170 : decode cX0_see 170 = .ok (.iload_n 3, 1) := dk_29 (dk_at dksX0_see_7 6 rfl rfl)
theorem dX0_see_171 : decode cX0_see 171 = .ok (.imul, 1) := dk_104 (dk_at dksX0_see_7 7 rfl rfl)
theorem dX0_see_172 : decode cX0_see 172 = .ok (.iconst 2, 1) := dk_5 (dk_at dksX0_see_7 8 rfl rfl)
theorem dX0_see_173 : decode cX0_see 173 = .ok (.iadd, 1) := dk_96 (dk_at dksX0_see_7 9 rfl rfl)
theorem dX0_see_174 : decode cX0_see 174 = .ok (.invokevirtual 307, 3) := dk_182 1 51 (dk_at dksX0_see_7 10 rfl rfl)
theorem dX0_see_177 : decode cX0_see 177 = .ok (.sipush 255, 3) := dk_17 0 255 (dk_at dksX0_see_7 13 rfl rfl)
theorem dX0_see_180 : decode cX0_see 180 = .ok (.if_icmp .ne 7, 3) := dk_160 0 7 (dk_at dksX0_see_7 16 rfl rfl)
theorem dX0_see_183 : decode cX0_see 183 = .ok (.iconst (-1), 1) := dk_2 (dk_at dksX0_see_7 19 rfl rfl)
theorem dX0_see_184 : decode cX0_see 184 = .ok (.goto 12, 3) := dk_167 0 12 (dk_at dksX0_see_7 20 rfl rfl)
theorem dX0_see_187 : decode cX0_see 187 = .ok (.aload_n 0, 1) := dk_42 (dk_at dksX0_see_7 23 rfl rfl)
theorem dX0_see_188 : decode cX0_see 188 = .ok (.iconst 3, 1) := dk_6 (dk_at dksX0_see_8 0 rfl rfl)
theorem dX0_see_189 : decode cX0_see 189 = .ok (.iload_n 3, 1) := dk_29 (dk_at dksX0_see_8 1 rfl rfl)
theorem dX0_see_190 : decode cX0_see 190 = .ok (.imul, 1) := dk_104 (dk_at dksX0_see_8 2 rfl rfl)
theorem dX0_see_191 : decode cX0_see 191 = .ok (.iconst 2, 1) := dk_5 (dk_at dksX0_see_8 3 rfl rfl)
theorem dX0_see_192 : decode cX0_see 192 = .ok (.iadd, 1) := dk_96 (dk_at dksX0_see_8 4 rfl rfl)
theorem dX0_see_193 : decode cX0_see 193 = .ok (.invokevirtual 307, 3) := dk_182 1 51 (dk_at dksX0_see_8 5 rfl rfl)
theorem dX0_see_196 : decode cX0_see 196 = .ok (.iastore, 1) := dk_79 (dk_at dksX0_see_8 8 rfl rfl)
theorem dX0_see_197 : decode cX0_see 197 = .ok (.iinc 3 1, 3) := dk_132 3 1 (dk_at dksX0_see_8 9 rfl rfl)
theorem dX0_see_200 : decode cX0_see 200 = .ok (.goto (-73), 3) := dk_167 255 183 (dk_at dksX0_see_8 12 rfl rfl)
theorem dX0_see_203 : decode cX0_see 203 = .ok (.aload_n 0, 1) := dk_42 (dk_at dksX0_see_8 15 rfl rfl)
theorem dX0_see_204 : decode cX0_see 204 = .ok (.getfield 151, 3) := dk_180 0 151 (dk_at dksX0_see_8 16 rfl rfl)
theorem dX0_see_207 : decode cX0_see 207 = .ok (.ireturn, 1) := dk_172 (dk_at dksX0_see_8 19 rfl rfl)
abbrev cX0_byteAt : ByteArray := prog_1_method_39_code
def yX0_byteAt : MethodName := ⟨RX0, "byteAt", "(I)I"⟩
def dkwX0_byteAt_0 : List UInt8 := [42, 180, 0, 35, 27, 51, 17, 0, 255, 126, 172]
abbrev dktX0_byteAt_0 : List UInt8 := dkwX0_byteAt_0 ++ []
theorem dksX0_byteAt_0 : cX0_byteAt.data.toList.drop 0 = dktX0_byteAt_0 := by decide +kernel
theorem dX0_byteAt_0 : decode cX0_byteAt 0 = .ok (.aload_n 0, 1) := dk_42 (dk_at dksX0_byteAt_0 0 rfl rfl)
theorem dX0_byteAt_1 : decode cX0_byteAt 1 = .ok (.getfield 35, 3) := dk_180 0 35 (dk_at dksX0_byteAt_0 1 rfl rfl)
theorem dX0_byteAt_4 : decode cX0_byteAt 4 = .ok (.iload_n 1, 1) := dk_27 (dk_at dksX0_byteAt_0 4 rfl rfl)
theorem dX0_byteAt_5 : decode cX0_byteAt 5 = .ok (.baload, 1) := dk_51 (dk_at dksX0_byteAt_0 5 rfl rfl)
theorem dX0_byteAt_6 : decode cX0_byteAt 6 = .ok (.sipush 255, 3) := dk_17 0 255 (dk_at dksX0_byteAt_0 6 rfl rfl)
theorem dX0_byteAt_9 : decode cX0_byteAt 9 = .ok (.iand, 1) := dk_126 (dk_at dksX0_byteAt_0 9 rfl rfl)
theorem dX0_byteAt_10 : decode cX0_byteAt 10 = .ok (.ireturn, 1) := dk_172 (dk_at dksX0_byteAt_0 10 rfl rfl)
abbrev cX0_tones : ByteArray := prog_1_method_42_code
def yX0_tones : MethodName := ⟨RX0, "tones", "(I)I"⟩
def dkwX0_tones_1 : List UInt8 := [182, 1, 54, 153, 0, 9, 4, 29, 120, 167, 0, 4, 3, 128, 61, 132, 3, 1, 167, 255, 228, 28, 172]
abbrev dktX0_tones_1 : List UInt8 := dkwX0_tones_1 ++ []
def dkwX0_tones_0 : List UInt8 := [42, 27, 182, 0, 216, 154, 0, 5, 2, 172, 3, 61, 3, 62, 29, 16, 10, 162, 0, 28, 28, 42, 27, 29]
abbrev dktX0_tones_0 : List UInt8 := dkwX0_tones_0 ++ dktX0_tones_1
theorem dksX0_tones_0 : cX0_tones.data.toList.drop 0 = dktX0_tones_0 := by decide +kernel
theorem dksX0_tones_1 : cX0_tones.data.toList.drop 24 = dktX0_tones_1 := dk_seg dksX0_tones_0 24 rfl rfl
theorem dX0_tones_0 : decode cX0_tones 0 = .ok (.aload_n 0, 1) := dk_42 (dk_at dksX0_tones_0 0 rfl rfl)
theorem dX0_tones_1 : decode cX0_tones 1 = .ok (.iload_n 1, 1) := dk_27 (dk_at dksX0_tones_0 1 rfl rfl)
theorem dX0_tones_2 : decode cX0_tones 2 = .ok (.invokevirtual 216, 3) := dk_182 0 216 (dk_at dksX0_tones_0 2 rfl rfl)
theorem dX0_tones_5 : decode cX0_tones 5 = .ok (.ifCond .ne 5, 3) := dk_154 0 5 (dk_at dksX0_tones_0 5 rfl rfl)
theorem dX0_tones_8 : decode cX0_tones 8 = .ok (.iconst (-1), 1) := dk_2 (dk_at dksX0_tones_0 8 rfl rfl)
theorem dX0_tones_9 : decode cX0_tones 9 = .ok (.ireturn, 1) := dk_172 (dk_at dksX0_tones_0 9 rfl rfl)
theorem dX0_tones_10 : decode cX0_tones 10 = .ok (.iconst 0, 1) := dk_3 (dk_at dksX0_tones_0 10 rfl rfl)
theorem dX0_tones_11 : decode cX0_tones 11 = .ok (.istore_n 2, 1) := dk_61 (dk_at dksX0_tones_0 11 rfl rfl)
theorem dX0_tones_12 : decode cX0_tones 12 = .ok (.iconst 0, 1) := dk_3 (dk_at dksX0_tones_0 12 rfl rfl)
theorem dX0_tones_13 : decode cX0_tones 13 = .ok (.istore_n 3, 1) := dk_62 (dk_at dksX0_tones_0 13 rfl rfl)
theorem dX0_tones_14 : decode cX0_tones 14 = .ok (.iload_n 3, 1) := dk_29 (dk_at dksX0_tones_0 14 rfl rfl)
theorem dX0_tones_15 : decode cX0_tones 15 = .ok (.bipush 10, 2) := dk_16 10 (dk_at dksX0_tones_0 15 rfl rfl)
theorem dX0_tones_17 : decode cX0_tones 17 = .ok (.if_icmp .ge 28, 3) := dk_162 0 28 (dk_at dksX0_tones_0 17 rfl rfl)
theorem dX0_tones_20 : decode cX0_tones 20 = .ok (.iload_n 2, 1) := dk_28 (dk_at dksX0_tones_0 20 rfl rfl)
theorem dX0_tones_21 : decode cX0_tones 21 = .ok (.aload_n 0, 1) := dk_42 (dk_at dksX0_tones_0 21 rfl rfl)
theorem dX0_tones_22 : decode cX0_tones 22 = .ok (.iload_n 1, 1) := dk_27 (dk_at dksX0_tones_0 22 rfl rfl)
theorem dX0_tones_23 : decode cX0_tones 23 = .ok (.iload_n 3, 1) := dk_29 (dk_at dksX0_tones_0 23 rfl rfl)
theorem dX0_tones_24 : decode cX0_tones 24 = .ok (.invokevirtual 310, 3) := dk_182 1 54 (dk_at dksX0_tones_1 0 rfl rfl)
theorem dX0_tones_27 : decode cX0_tones 27 = .ok (.ifCond .eq 9, 3) := dk_153 0 9 (dk_at dksX0_tones_1 3 rfl rfl)
theorem dX0_tones_30 : decode cX0_tones 30 = .ok (.iconst 1, 1) := dk_4 (dk_at dksX0_tones_1 6 rfl rfl)
theorem dX0_tones_31 : decode cX0_tones 31 = .ok (.iload_n 3, 1) := dk_29 (dk_at dksX0_tones_1 7 rfl rfl)
theorem dX0_tones_32 : decode cX0_tones 32 = .ok (.ishl, 1) := dk_120 (dk_at dksX0_tones_1 8 rfl rfl)
theorem dX0_tones_33 : decode cX0_tones 33 = .ok (.goto 4, 3) := dk_167 0 4 (dk_at dksX0_tones_1 9 rfl rfl)
theorem dX0_tones_36 : decode cX0_tones 36 = .ok (.iconst 0, 1) := dk_3 (dk_at dksX0_tones_1 12 rfl rfl)
theorem dX0_tones_37 : decode cX0_tones 37 = .ok (.ior, 1) := dk_128 (dk_at dksX0_tones_1 13 rfl rfl)
theorem dX0_tones_38 : decode cX0_tones 38 = .ok (.istore_n 2, 1) := dk_61 (dk_at dksX0_tones_1 14 rfl rfl)
theorem dX0_tones_39 : decode cX0_tones 39 = .ok (.iinc 3 1, 3) := dk_132 3 1 (dk_at dksX0_tones_1 15 rfl rfl)
theorem dX0_tones_42 : decode cX0_tones 42 = .ok (.goto (-28), 3) := dk_167 255 228 (dk_at dksX0_tones_1 18 rfl rfl)
theorem dX0_tones_45 : decode cX0_tones 45 = .ok (.iload_n 2, 1) := dk_28 (dk_at dksX0_tones_1 21 rfl rfl)
theorem dX0_tones_46 : decode cX0_tones 46 = .ok (.ireturn, 1) := dk_172 (dk_at dksX0_tones_1 22 rfl rfl)
abbrev cX0_canBe : ByteArray := prog_1_method_41_code
def yX0_canBe : MethodName := ⟨RX0, "canBe", "(II)Z"⟩
def dkwX0_canBe_6 : List UInt8 := [160, 0, 7, 4, 167, 0, 4, 3, 172]
abbrev dktX0_canBe_6 : List UInt8 := dkwX0_canBe_6 ++ []
def dkwX0_canBe_5 : List UInt8 := [167, 0, 4, 3, 96, 62, 132, 5, 1, 167, 255, 199, 132, 4, 1, 167, 255, 150, 29, 42, 180, 0, 151]
abbrev dktX0_canBe_5 : List UInt8 := dkwX0_canBe_5 ++ dktX0_canBe_6
def dkwX0_canBe_4 : List UInt8 := [180, 1, 49, 42, 180, 0, 93, 21, 5, 46, 46, 42, 180, 0, 96, 21, 5, 46, 160, 0, 7, 4]
abbrev dktX0_canBe_4 : List UInt8 := dkwX0_canBe_4 ++ dktX0_canBe_5
def dkwX0_canBe_3 : List UInt8 := [180, 0, 151, 162, 0, 54, 29, 42, 180, 0, 90, 21, 5, 46, 21, 4, 160, 0, 32, 42, 180, 0, 87]
abbrev dktX0_canBe_3 : List UInt8 := dkwX0_canBe_3 ++ dktX0_canBe_4
def dkwX0_canBe_2 : List UInt8 := [180, 0, 101, 28, 50, 21, 4, 42, 180, 0, 87, 180, 1, 49, 27, 46, 79, 3, 54, 5, 21, 5, 42]
abbrev dktX0_canBe_2 : List UInt8 := dkwX0_canBe_2 ++ dktX0_canBe_3
def dkwX0_canBe_1 : List UInt8 := [21, 4, 4, 96, 4, 16, 21, 182, 1, 43, 153, 0, 98, 42, 180, 0, 87, 182, 1, 46, 87, 42]
abbrev dktX0_canBe_1 : List UInt8 := dkwX0_canBe_1 ++ dktX0_canBe_2
def dkwX0_canBe_0 : List UInt8 := [42, 180, 0, 87, 42, 180, 0, 83, 182, 1, 39, 180, 0, 226, 27, 28, 79, 3, 62, 3, 54, 4, 42]
abbrev dktX0_canBe_0 : List UInt8 := dkwX0_canBe_0 ++ dktX0_canBe_1
theorem dksX0_canBe_0 : cX0_canBe.data.toList.drop 0 = dktX0_canBe_0 := by decide +kernel
theorem dksX0_canBe_1 : cX0_canBe.data.toList.drop 23 = dktX0_canBe_1 := dk_seg dksX0_canBe_0 23 rfl rfl
theorem dksX0_canBe_2 : cX0_canBe.data.toList.drop 45 = dktX0_canBe_2 := dk_seg dksX0_canBe_1 22 rfl rfl
theorem dksX0_canBe_3 : cX0_canBe.data.toList.drop 68 = dktX0_canBe_3 := dk_seg dksX0_canBe_2 23 rfl rfl
theorem dksX0_canBe_4 : cX0_canBe.data.toList.drop 91 = dktX0_canBe_4 := dk_seg dksX0_canBe_3 23 rfl rfl
theorem dksX0_canBe_5 : cX0_canBe.data.toList.drop 113 = dktX0_canBe_5 := dk_seg dksX0_canBe_4 22 rfl rfl
theorem dksX0_canBe_6 : cX0_canBe.data.toList.drop 136 = dktX0_canBe_6 := dk_seg dksX0_canBe_5 23 rfl rfl
theorem dX0_canBe_0 : decode cX0_canBe 0 = .ok (.aload_n 0, 1) := dk_42 (dk_at dksX0_canBe_0 0 rfl rfl)
theorem dX0_canBe_1 : decode cX0_canBe 1 = .ok (.getfield 87, 3) := dk_180 0 87 (dk_at dksX0_canBe_0 1 rfl rfl)
theorem dX0_canBe_4 : decode cX0_canBe 4 = .ok (.aload_n 0, 1) := dk_42 (dk_at dksX0_canBe_0 4 rfl rfl)
theorem dX0_canBe_5 : decode cX0_canBe 5 = .ok (.getfield 83, 3) := dk_180 0 83 (dk_at dksX0_canBe_0 5 rfl rfl)
theorem dX0_canBe_8 : decode cX0_canBe 8 = .ok (.invokevirtual 295, 3) := dk_182 1 39 (dk_at dksX0_canBe_0 8 rfl rfl)
theorem dX0_canBe_11 : decode cX0_canBe 11 = .ok (.getfield 226, 3) := dk_180 0 226 (dk_at dksX0_canBe_0 11 rfl rfl)
theorem dX0_canBe_14 : decode cX0_canBe 14 = .ok (.iload_n 1, 1) := dk_27 (dk_at dksX0_canBe_0 14 rfl rfl)
theorem dX0_canBe_15 : decode cX0_canBe 15 = .ok (.iload_n 2, 1) := dk_28 (dk_at dksX0_canBe_0 15 rfl rfl)
theorem dX0_canBe_16 : decode cX0_canBe 16 = .ok (.iastore, 1) := dk_79 (dk_at dksX0_canBe_0 16 rfl rfl)
theorem dX0_canBe_17 : decode cX0_canBe 17 = .ok (.iconst 0, 1) := dk_3 (dk_at dksX0_canBe_0 17 rfl rfl)
theorem dX0_canBe_18 : decode cX0_canBe 18 = .ok (.istore_n 3, 1) := dk_62 (dk_at dksX0_canBe_0 18 rfl rfl)
theorem dX0_canBe_19 : decode cX0_canBe 19 = .ok (.iconst 0, 1) := dk_3 (dk_at dksX0_canBe_0 19 rfl rfl)
theorem dX0_canBe_20 : decode cX0_canBe 20 = .ok (.istore 4, 2) := dk_54 4 (dk_at dksX0_canBe_0 20 rfl rfl)
theorem dX0_canBe_22 : decode cX0_canBe 22 = .ok (.aload_n 0, 1) := dk_42 (dk_at dksX0_canBe_0 22 rfl rfl)
theorem dX0_canBe_23 : decode cX0_canBe 23 = .ok (.iload 4, 2) := dk_21 4 (dk_at dksX0_canBe_1 0 rfl rfl)
theorem dX0_canBe_25 : decode cX0_canBe 25 = .ok (.iconst 1, 1) := dk_4 (dk_at dksX0_canBe_1 2 rfl rfl)
theorem dX0_canBe_26 : decode cX0_canBe 26 = .ok (.iadd, 1) := dk_96 (dk_at dksX0_canBe_1 3 rfl rfl)
theorem dX0_canBe_27 : decode cX0_canBe 27 = .ok (.iconst 1, 1) := dk_4 (dk_at dksX0_canBe_1 4 rfl rfl)
theorem dX0_canBe_28 : decode cX0_canBe 28 = .ok (.bipush 21, 2) := dk_16 21 (dk_at dksX0_canBe_1 5 rfl rfl)
theorem dX0_canBe_30 : decode cX0_canBe 30 = .ok (.invokevirtual 299, 3) := dk_182 1 43 (dk_at dksX0_canBe_1 7 rfl rfl)
theorem dX0_canBe_33 : decode cX0_canBe 33 = .ok (.ifCond .eq 98, 3) := dk_153 0 98 (dk_at dksX0_canBe_1 10 rfl rfl)
theorem dX0_canBe_36 : decode cX0_canBe 36 = .ok (.aload_n 0, 1) := dk_42 (dk_at dksX0_canBe_1 13 rfl rfl)
theorem dX0_canBe_37 : decode cX0_canBe 37 = .ok (.getfield 87, 3) := dk_180 0 87 (dk_at dksX0_canBe_1 14 rfl rfl)
theorem dX0_canBe_40 : decode cX0_canBe 40 = .ok (.invokevirtual 302, 3) := dk_182 1 46 (dk_at dksX0_canBe_1 17 rfl rfl)
theorem dX0_canBe_43 : decode cX0_canBe 43 = .ok (.pop, 1) := dk_87 (dk_at dksX0_canBe_1 20 rfl rfl)
theorem dX0_canBe_44 : decode cX0_canBe 44 = .ok (.aload_n 0, 1) := dk_42 (dk_at dksX0_canBe_1 21 rfl rfl)
theorem dX0_canBe_45 : decode cX0_canBe 45 = .ok (.getfield 101, 3) := dk_180 0 101 (dk_at dksX0_canBe_2 0 rfl rfl)
theorem dX0_canBe_48 : decode cX0_canBe 48 = .ok (.iload_n 2, 1) := dk_28 (dk_at dksX0_canBe_2 3 rfl rfl)
theorem dX0_canBe_49 : decode cX0_canBe 49 = .ok (.aaload, 1) := dk_50 (dk_at dksX0_canBe_2 4 rfl rfl)
theorem dX0_canBe_50 : decode cX0_canBe 50 = .ok (.iload 4, 2) := dk_21 4 (dk_at dksX0_canBe_2 5 rfl rfl)
theorem dX0_canBe_52 : decode cX0_canBe 52 = .ok (.aload_n 0, 1) := dk_42 (dk_at dksX0_canBe_2 7 rfl rfl)
theorem dX0_canBe_53 : decode cX0_canBe 53 = .ok (.getfield 87, 3) := dk_180 0 87 (dk_at dksX0_canBe_2 8 rfl rfl)
theorem dX0_canBe_56 : decode cX0_canBe 56 = .ok (.getfield 305, 3) := dk_180 1 49 (dk_at dksX0_canBe_2 11 rfl rfl)
theorem dX0_canBe_59 : decode cX0_canBe 59 = .ok (.iload_n 1, 1) := dk_27 (dk_at dksX0_canBe_2 14 rfl rfl)
theorem dX0_canBe_60 : decode cX0_canBe 60 = .ok (.iaload, 1) := dk_46 (dk_at dksX0_canBe_2 15 rfl rfl)
theorem dX0_canBe_61 : decode cX0_canBe 61 = .ok (.iastore, 1) := dk_79 (dk_at dksX0_canBe_2 16 rfl rfl)
theorem dX0_canBe_62 : decode cX0_canBe 62 = .ok (.iconst 0, 1) := dk_3 (dk_at dksX0_canBe_2 17 rfl rfl)
theorem dX0_canBe_63 : decode cX0_canBe 63 = .ok (.istore 5, 2) := dk_54 5 (dk_at dksX0_canBe_2 18 rfl rfl)
theorem dX0_canBe_65 : decode cX0_canBe 65 = .ok (.iload 5, 2) := dk_21 5 (dk_at dksX0_canBe_2 20 rfl rfl)
theorem dX0_canBe_67 : decode cX0_canBe 67 = .ok (.aload_n 0, 1) := dk_42 (dk_at dksX0_canBe_2 22 rfl rfl)
theorem dX0_canBe_68 : decode cX0_canBe 68 = .ok (.getfield 151, 3) := dk_180 0 151 (dk_at dksX0_canBe_3 0 rfl rfl)
theorem dX0_canBe_71 : decode cX0_canBe 71 = .ok (.if_icmp .ge 54, 3) := dk_162 0 54 (dk_at dksX0_canBe_3 3 rfl rfl)
theorem dX0_canBe_74 : decode cX0_canBe 74 = .ok (.iload_n 3, 1) := dk_29 (dk_at dksX0_canBe_3 6 rfl rfl)
theorem dX0_canBe_75 : decode cX0_canBe 75 = .ok (.aload_n 0, 1) := dk_42 (dk_at dksX0_canBe_3 7 rfl rfl)
theorem dX0_canBe_76 : decode cX0_canBe 76 = .ok (.getfield 90, 3) := dk_180 0 90 (dk_at dksX0_canBe_3 8 rfl rfl)
theorem dX0_canBe_79 : decode cX0_canBe 79 = .ok (.iload 5, 2) := dk_21 5 (dk_at dksX0_canBe_3 11 rfl rfl)
theorem dX0_canBe_81 : decode cX0_canBe 81 = .ok (.iaload, 1) := dk_46 (dk_at dksX0_canBe_3 13 rfl rfl)
theorem dX0_canBe_82 : decode cX0_canBe 82 = .ok (.iload 4, 2) := dk_21 4 (dk_at dksX0_canBe_3 14 rfl rfl)
theorem dX0_canBe_84 : decode cX0_canBe 84 = .ok (.if_icmp .ne 32, 3) := dk_160 0 32 (dk_at dksX0_canBe_3 16 rfl rfl)
theorem dX0_canBe_87 : decode cX0_canBe 87 = .ok (.aload_n 0, 1) := dk_42 (dk_at dksX0_canBe_3 19 rfl rfl)
theorem dX0_canBe_88 : decode cX0_canBe 88 = .ok (.getfield 87, 3) := dk_180 0 87 (dk_at dksX0_canBe_3 20 rfl rfl)
theorem dX0_canBe_91 : decode cX0_canBe 91 = .ok (.getfield 305, 3) := dk_180 1 49 (dk_at dksX0_canBe_4 0 rfl rfl)
theorem dX0_canBe_94 : decode cX0_canBe 94 = .ok (.aload_n 0, 1) := dk_42 (dk_at dksX0_canBe_4 3 rfl rfl)
theorem dX0_canBe_95 : decode cX0_canBe 95 = .ok (.getfield 93, 3) := dk_180 0 93 (dk_at dksX0_canBe_4 4 rfl rfl)
theorem dX0_canBe_98 : decode cX0_canBe 98 = .ok (.iload 5, 2) := dk_21 5 (dk_at dksX0_canBe_4 7 rfl rfl)
theorem dX0_canBe_100 : decode cX0_canBe 100 = .ok (.iaload, 1) := dk_46 (dk_at dksX0_canBe_4 9 rfl rfl)
theorem dX0_canBe_101 : decode cX0_canBe 101 = .ok (.iaload, 1) := dk_46 (dk_at dksX0_canBe_4 10 rfl rfl)
theorem dX0_canBe_102 : decode cX0_canBe 102 = .ok (.aload_n 0, 1) := dk_42 (dk_at dksX0_canBe_4 11 rfl rfl)
theorem dX0_canBe_103 : decode cX0_canBe 103 = .ok (.getfield 96, 3) := dk_180 0 96 (dk_at dksX0_canBe_4 12 rfl rfl)
theorem dX0_canBe_106 : decode cX0_canBe 106 = .ok (.iload 5, 2) := dk_21 5 (dk_at dksX0_canBe_4 15 rfl rfl)
theorem dX0_canBe_108 : decode cX0_canBe 108 = .ok (.iaload, 1) := dk_46 (dk_at dksX0_canBe_4 17 rfl rfl)
theorem dX0_canBe_109 : decode cX0_canBe 109 = .ok (.if_icmp .ne 7, 3) := dk_160 0 7 (dk_at dksX0_canBe_4 18 rfl rfl)
theorem dX0_canBe_112 : decode cX0_canBe 112 = .ok (.iconst 1, 1) := dk_4 (dk_at dksX0_canBe_4 21 rfl rfl)
theorem dX0_canBe_113 : decode cX0_canBe 113 = .ok (.goto 4, 3) := dk_167 0 4 (dk_at dksX0_canBe_5 0 rfl rfl)
theorem dX0_canBe_116 : decode cX0_canBe 116 = .ok (.iconst 0, 1) := dk_3 (dk_at dksX0_canBe_5 3 rfl rfl)
theorem dX0_canBe_117 : decode cX0_canBe 117 = .ok (.iadd, 1) := dk_96 (dk_at dksX0_canBe_5 4 rfl rfl)
theorem dX0_canBe_118 : decode cX0_canBe 118 = .ok (.istore_n 3, 1) := dk_62 (dk_at dksX0_canBe_5 5 rfl rfl)
theorem dX0_canBe_119 : decode cX0_canBe 119 = .ok (.iinc 5 1, 3) := dk_132 5 1 (dk_at dksX0_canBe_5 6 rfl rfl)
theorem dX0_canBe_122 : decode cX0_canBe 122 = .ok (.goto (-57), 3) := dk_167 255 199 (dk_at dksX0_canBe_5 9 rfl rfl)
theorem dX0_canBe_125 : decode cX0_canBe 125 = .ok (.iinc 4 1, 3) := dk_132 4 1 (dk_at dksX0_canBe_5 12 rfl rfl)
theorem dX0_canBe_128 : decode cX0_canBe 128 = .ok (.goto (-106), 3) := dk_167 255 150 (dk_at dksX0_canBe_5 15 rfl rfl)
theorem dX0_canBe_131 : decode cX0_canBe 131 = .ok (.iload_n 3, 1) := dk_29 (dk_at dksX0_canBe_5 18 rfl rfl)
theorem dX0_canBe_132 : decode cX0_canBe 132 = .ok (.aload_n 0, 1) := dk_42 (dk_at dksX0_canBe_5 19 rfl rfl)
theorem dX0_canBe_133 : decode cX0_canBe 133 = .ok (.getfield 151, 3) := dk_180 0 151 (dk_at dksX0_canBe_5 20 rfl rfl)
theorem dX0_canBe_136 : decode cX0_canBe 136 = .ok (.if_icmp .ne 7, 3) := dk_160 0 7 (dk_at dksX0_canBe_6 0 rfl rfl)
theorem dX0_canBe_139 : decode cX0_canBe 139 = .ok (.iconst 1, 1) := dk_4 (dk_at dksX0_canBe_6 3 rfl rfl)
theorem dX0_canBe_140 : decode cX0_canBe 140 = .ok (.goto 4, 3) := dk_167 0 4 (dk_at dksX0_canBe_6 4 rfl rfl)
theorem dX0_canBe_143 : decode cX0_canBe 143 = .ok (.iconst 0, 1) := dk_3 (dk_at dksX0_canBe_6 7 rfl rfl)
theorem dX0_canBe_144 : decode cX0_canBe 144 = .ok (.ireturn, 1) := dk_172 (dk_at dksX0_canBe_6 8 rfl rfl)
abbrev cX0_tells : ByteArray := prog_1_method_43_code
def yX0_tells : MethodName := ⟨RX0, "tells", "(II)I"⟩
def dkwX0_tells_7 : List UInt8 := [132, 6, 1, 167, 255, 123, 21, 4, 2, 159, 0, 7, 28, 154, 0, 8, 21, 4, 167, 0, 5, 21, 5, 172]
abbrev dktX0_tells_7 : List UInt8 := dkwX0_tells_7 ++ []
def dkwX0_tells_6 : List UInt8 := [132, 8, 1, 167, 255, 167, 21, 7, 21, 5, 161, 0, 6, 167, 0, 11, 21, 7, 54, 5, 21, 6, 54, 4]
abbrev dktX0_tells_6 : List UInt8 := dkwX0_tells_6 ++ dktX0_tells_7
def dkwX0_tells_5 : List UInt8 := [167, 0, 4, 3, 96, 54, 9, 132, 10, 1, 167, 255, 195, 21, 7, 21, 9, 184, 1, 61, 54, 7]
abbrev dktX0_tells_5 : List UInt8 := dkwX0_tells_5 ++ dktX0_tells_6
def dkwX0_tells_4 : List UInt8 := [180, 0, 101, 21, 8, 50, 21, 6, 46, 42, 180, 0, 101, 21, 10, 50, 21, 6, 46, 160, 0, 7, 4]
abbrev dktX0_tells_4 : List UInt8 := dkwX0_tells_4 ++ dktX0_tells_5
def dkwX0_tells_3 : List UInt8 := [162, 0, 60, 21, 9, 29, 21, 8, 184, 0, 238, 153, 0, 39, 29, 21, 10, 184, 0, 238, 153, 0, 30, 42]
abbrev dktX0_tells_3 : List UInt8 := dkwX0_tells_3 ++ dktX0_tells_4
def dkwX0_tells_2 : List UInt8 := [54, 7, 3, 54, 8, 21, 8, 16, 10, 162, 0, 88, 3, 54, 9, 3, 54, 10, 21, 10, 16, 10]
abbrev dktX0_tells_2 : List UInt8 := dkwX0_tells_2 ++ dktX0_tells_3
def dkwX0_tells_1 : List UInt8 := [19, 1, 60, 54, 5, 3, 54, 6, 42, 21, 6, 4, 96, 4, 16, 21, 182, 1, 43, 153, 0, 125, 3]
abbrev dktX0_tells_1 : List UInt8 := dkwX0_tells_1 ++ dktX0_tells_2
def dkwX0_tells_0 : List UInt8 := [42, 27, 182, 1, 57, 62, 29, 158, 0, 12, 28, 3, 4, 184, 0, 193, 154, 0, 5, 2, 172, 2, 54, 4]
abbrev dktX0_tells_0 : List UInt8 := dkwX0_tells_0 ++ dktX0_tells_1
theorem dksX0_tells_0 : cX0_tells.data.toList.drop 0 = dktX0_tells_0 := by decide +kernel
theorem dksX0_tells_1 : cX0_tells.data.toList.drop 24 = dktX0_tells_1 := dk_seg dksX0_tells_0 24 rfl rfl
theorem dksX0_tells_2 : cX0_tells.data.toList.drop 47 = dktX0_tells_2 := dk_seg dksX0_tells_1 23 rfl rfl
theorem dksX0_tells_3 : cX0_tells.data.toList.drop 69 = dktX0_tells_3 := dk_seg dksX0_tells_2 22 rfl rfl
theorem dksX0_tells_4 : cX0_tells.data.toList.drop 93 = dktX0_tells_4 := dk_seg dksX0_tells_3 24 rfl rfl
theorem dksX0_tells_5 : cX0_tells.data.toList.drop 116 = dktX0_tells_5 := dk_seg dksX0_tells_4 23 rfl rfl
theorem dksX0_tells_6 : cX0_tells.data.toList.drop 138 = dktX0_tells_6 := dk_seg dksX0_tells_5 22 rfl rfl
theorem dksX0_tells_7 : cX0_tells.data.toList.drop 162 = dktX0_tells_7 := dk_seg dksX0_tells_6 24 rfl rfl
theorem dX0_tells_0 : decode cX0_tells 0 = .ok (.aload_n 0, 1) := dk_42 (dk_at dksX0_tells_0 0 rfl rfl)
theorem dX0_tells_1 : decode cX0_tells 1 = .ok (.iload_n 1, 1) := dk_27 (dk_at dksX0_tells_0 1 rfl rfl)
theorem dX0_tells_2 : decode cX0_tells 2 = .ok (.invokevirtual 313, 3) := dk_182 1 57 (dk_at dksX0_tells_0 2 rfl rfl)
theorem dX0_tells_5 : decode cX0_tells 5 = .ok (.istore_n 3, 1) := dk_62 (dk_at dksX0_tells_0 5 rfl rfl)
theorem dX0_tells_6 : decode cX0_tells 6 = .ok (.iload_n 3, 1) := dk_29 (dk_at dksX0_tells_0 6 rfl rfl)
theorem dX0_tells_7 : decode cX0_tells 7 = .ok (.ifCond .le 12, 3) := dk_158 0 12 (dk_at dksX0_tells_0 7 rfl rfl)
theorem dX0_tells_10 : decode cX0_tells 10 = .ok (.iload_n 2, 1) := dk_28 (dk_at dksX0_tells_0 10 rfl rfl)
theorem dX0_tells_11 : decode cX0_tells 11 = .ok (.iconst 0, 1) := dk_3 (dk_at dksX0_tells_0 11 rfl rfl)
theorem dX0_tells_12 : decode cX0_tells 12 = .ok (.iconst 1, 1) := dk_4 (dk_at dksX0_tells_0 12 rfl rfl)
theorem dX0_tells_13 : decode cX0_tells 13 = .ok (.invokestatic 193, 3) := dk_184 0 193 (dk_at dksX0_tells_0 13 rfl rfl)
theorem dX0_tells_16 : decode cX0_tells 16 = .ok (.ifCond .ne 5, 3) := dk_154 0 5 (dk_at dksX0_tells_0 16 rfl rfl)
theorem dX0_tells_19 : decode cX0_tells 19 = .ok (.iconst (-1), 1) := dk_2 (dk_at dksX0_tells_0 19 rfl rfl)
theorem dX0_tells_20 : decode cX0_tells 20 = .ok (.ireturn, 1) := dk_172 (dk_at dksX0_tells_0 20 rfl rfl)
theorem dX0_tells_21 : decode cX0_tells 21 = .ok (.iconst (-1), 1) := dk_2 (dk_at dksX0_tells_0 21 rfl rfl)
theorem dX0_tells_22 : decode cX0_tells 22 = .ok (.istore 4, 2) := dk_54 4 (dk_at dksX0_tells_0 22 rfl rfl)
theorem dX0_tells_24 : decode cX0_tells 24 = .ok (.ldc_w 316, 3) := dk_19 1 60 (dk_at dksX0_tells_1 0 rfl rfl)
theorem dX0_tells_27 : decode cX0_tells 27 = .ok (.istore 5, 2) := dk_54 5 (dk_at dksX0_tells_1 3 rfl rfl)
theorem dX0_tells_29 : decode cX0_tells 29 = .ok (.iconst 0, 1) := dk_3 (dk_at dksX0_tells_1 5 rfl rfl)
theorem dX0_tells_30 : decode cX0_tells 30 = .ok (.istore 6, 2) := dk_54 6 (dk_at dksX0_tells_1 6 rfl rfl)
theorem dX0_tells_32 : decode cX0_tells 32 = .ok (.aload_n 0, 1) := dk_42 (dk_at dksX0_tells_1 8 rfl rfl)
theorem dX0_tells_33 : decode cX0_tells 33 = .ok (.iload 6, 2) := dk_21 6 (dk_at dksX0_tells_1 9 rfl rfl)
theorem dX0_tells_35 : decode cX0_tells 35 = .ok (.iconst 1, 1) := dk_4 (dk_at dksX0_tells_1 11 rfl rfl)
theorem dX0_tells_36 : decode cX0_tells 36 = .ok (.iadd, 1) := dk_96 (dk_at dksX0_tells_1 12 rfl rfl)
theorem dX0_tells_37 : decode cX0_tells 37 = .ok (.iconst 1, 1) := dk_4 (dk_at dksX0_tells_1 13 rfl rfl)
theorem dX0_tells_38 : decode cX0_tells 38 = .ok (.bipush 21, 2) := dk_16 21 (dk_at dksX0_tells_1 14 rfl rfl)
theorem dX0_tells_40 : decode cX0_tells 40 = .ok (.invokevirtual 299, 3) := dk_182 1 43 (dk_at dksX0_tells_1 16 rfl rfl)
theorem dX0_tells_43 : decode cX0_tells 43 = .ok (.ifCond .eq 125, 3) := dk_153 0 125 (dk_at dksX0_tells_1 19 rfl rfl)
theorem dX0_tells_46 : decode cX0_tells 46 = .ok (.iconst 0, 1) := dk_3 (dk_at dksX0_tells_1 22 rfl rfl)
theorem dX0_tells_47 : decode cX0_tells 47 = .ok (.istore 7, 2) := dk_54 7 (dk_at dksX0_tells_2 0 rfl rfl)
theorem dX0_tells_49 : decode cX0_tells 49 = .ok (.iconst 0, 1) := dk_3 (dk_at dksX0_tells_2 2 rfl rfl)
theorem dX0_tells_50 : decode cX0_tells 50 = .ok (.istore 8, 2) := dk_54 8 (dk_at dksX0_tells_2 3 rfl rfl)
theorem dX0_tells_52 : decode cX0_tells 52 = .ok (.iload 8, 2) := dk_21 8 (dk_at dksX0_tells_2 5 rfl rfl)
theorem dX0_tells_54 : decode cX0_tells 54 = .ok (.bipush 10, 2) := dk_16 10 (dk_at dksX0_tells_2 7 rfl rfl)
theorem dX0_tells_56 : decode cX0_tells 56 = .ok (.if_icmp .ge 88, 3) := dk_162 0 88 (dk_at dksX0_tells_2 9 rfl rfl)
theorem dX0_tells_59 : decode cX0_tells 59 = .ok (.iconst 0, 1) := dk_3 (dk_at dksX0_tells_2 12 rfl rfl)
theorem dX0_tells_60 : decode cX0_tells 60 = .ok (.istore 9, 2) := dk_54 9 (dk_at dksX0_tells_2 13 rfl rfl)
theorem dX0_tells_62 : decode cX0_tells 62 = .ok (.iconst 0, 1) := dk_3 (dk_at dksX0_tells_2 15 rfl rfl)
theorem dX0_tells_63 : decode cX0_tells 63 = .ok (.istore 10, 2) := dk_54 10 (dk_at dksX0_tells_2 16 rfl rfl)
theorem dX0_tells_65 : decode cX0_tells 65 = .ok (.iload 10, 2) := dk_21 10 (dk_at dksX0_tells_2 18 rfl rfl)
theorem dX0_tells_67 : decode cX0_tells 67 = .ok (.bipush 10, 2) := dk_16 10 (dk_at dksX0_tells_2 20 rfl rfl)
theorem dX0_tells_69 : decode cX0_tells 69 = .ok (.if_icmp .ge 60, 3) := dk_162 0 60 (dk_at dksX0_tells_3 0 rfl rfl)
theorem dX0_tells_72 : decode cX0_tells 72 = .ok (.iload 9, 2) := dk_21 9 (dk_at dksX0_tells_3 3 rfl rfl)
theorem dX0_tells_74 : decode cX0_tells 74 = .ok (.iload_n 3, 1) := dk_29 (dk_at dksX0_tells_3 5 rfl rfl)
theorem dX0_tells_75 : decode cX0_tells 75 = .ok (.iload 8, 2) := dk_21 8 (dk_at dksX0_tells_3 6 rfl rfl)
theorem dX0_tells_77 : decode cX0_tells 77 = .ok (.invokestatic 238, 3) := dk_184 0 238 (dk_at dksX0_tells_3 8 rfl rfl)
theorem dX0_tells_80 : decode cX0_tells 80 = .ok (.ifCond .eq 39, 3) := dk_153 0 39 (dk_at dksX0_tells_3 11 rfl rfl)
theorem dX0_tells_83 : decode cX0_tells 83 = .ok (.iload_n 3, 1) := dk_29 (dk_at dksX0_tells_3 14 rfl rfl)
theorem dX0_tells_84 : decode cX0_tells 84 = .ok (.iload 10, 2) := dk_21 10 (dk_at dksX0_tells_3 15 rfl rfl)
theorem dX0_tells_86 : decode cX0_tells 86 = .ok (.invokestatic 238, 3) := dk_184 0 238 (dk_at dksX0_tells_3 17 rfl rfl)
theorem dX0_tells_89 : decode cX0_tells 89 = .ok (.ifCond .eq 30, 3) := dk_153 0 30 (dk_at dksX0_tells_3 20 rfl rfl)
theorem dX0_tells_92 : decode cX0_tells 92 = .ok (.aload_n 0, 1) := dk_42 (dk_at dksX0_tells_3 23 rfl rfl)
theorem dX0_tells_93 : decode cX0_tells 93 = .ok (.getfield 101, 3) := dk_180 0 101 (dk_at dksX0_tells_4 0 rfl rfl)
theorem dX0_tells_96 : decode cX0_tells 96 = .ok (.iload 8, 2) := dk_21 8 (dk_at dksX0_tells_4 3 rfl rfl)
theorem dX0_tells_98 : decode cX0_tells 98 = .ok (.aaload, 1) := dk_50 (dk_at dksX0_tells_4 5 rfl rfl)
theorem dX0_tells_99 : decode cX0_tells 99 = .ok (.iload 6, 2) := dk_21 6 (dk_at dksX0_tells_4 6 rfl rfl)
theorem dX0_tells_101 : decode cX0_tells 101 = .ok (.iaload, 1) := dk_46 (dk_at dksX0_tells_4 8 rfl rfl)
theorem dX0_tells_102 : decode cX0_tells 102 = .ok (.aload_n 0, 1) := dk_42 (dk_at dksX0_tells_4 9 rfl rfl)
theorem dX0_tells_103 : decode cX0_tells 103 = .ok (.getfield 101, 3) := dk_180 0 101 (dk_at dksX0_tells_4 10 rfl rfl)
theorem dX0_tells_106 : decode cX0_tells 106 = .ok (.iload 10, 2) := dk_21 10 (dk_at dksX0_tells_4 13 rfl rfl)
theorem dX0_tells_108 : decode cX0_tells 108 = .ok (.aaload, 1) := dk_50 (dk_at dksX0_tells_4 15 rfl rfl)
theorem dX0_tells_109 : decode cX0_tells 109 = .ok (.iload 6, 2) := dk_21 6 (dk_at dksX0_tells_4 16 rfl rfl)
theorem dX0_tells_111 : decode cX0_tells 111 = .ok (.iaload, 1) := dk_46 (dk_at dksX0_tells_4 18 rfl rfl)
theorem dX0_tells_112 : decode cX0_tells 112 = .ok (.if_icmp .ne 7, 3) := dk_160 0 7 (dk_at dksX0_tells_4 19 rfl rfl)
theorem dX0_tells_115 : decode cX0_tells 115 = .ok (.iconst 1, 1) := dk_4 (dk_at dksX0_tells_4 22 rfl rfl)
theorem dX0_tells_116 : decode cX0_tells 116 = .ok (.goto 4, 3) := dk_167 0 4 (dk_at dksX0_tells_5 0 rfl rfl)
theorem dX0_tells_119 : decode cX0_tells 119 = .ok (.iconst 0, 1) := dk_3 (dk_at dksX0_tells_5 3 rfl rfl)
theorem dX0_tells_120 : decode cX0_tells 120 = .ok (.iadd, 1) := dk_96 (dk_at dksX0_tells_5 4 rfl rfl)
theorem dX0_tells_121 : decode cX0_tells 121 = .ok (.istore 9, 2) := dk_54 9 (dk_at dksX0_tells_5 5 rfl rfl)
theorem dX0_tells_123 : decode cX0_tells 123 = .ok (.iinc 10 1, 3) := dk_132 10 1 (dk_at dksX0_tells_5 7 rfl rfl)
theorem dX0_tells_126 : decode cX0_tells 126 = .ok (.goto (-61), 3) := dk_167 255 195 (dk_at dksX0_tells_5 10 rfl rfl)
theorem dX0_tells_129 : decode cX0_tells 129 = .ok (.iload 7, 2) := dk_21 7 (dk_at dksX0_tells_5 13 rfl rfl)
theorem dX0_tells_131 : decode cX0_tells 131 = .ok (.iload 9, 2) := dk_21 9 (dk_at dksX0_tells_5 15 rfl rfl)
theorem dX0_tells_133 : decode cX0_tells 133 = .ok (.invokestatic 317, 3) := dk_184 1 61 (dk_at dksX0_tells_5 17 rfl rfl)
theorem dX0_tells_136 : decode cX0_tells 136 = .ok (.istore 7, 2) := dk_54 7 (dk_at dksX0_tells_5 20 rfl rfl)
theorem dX0_tells_138 : decode cX0_tells 138 = .ok (.iinc 8 1, 3) := dk_132 8 1 (dk_at dksX0_tells_6 0 rfl rfl)
theorem dX0_tells_141 : decode cX0_tells 141 = .ok (.goto (-89), 3) := dk_167 255 167 (dk_at dksX0_tells_6 3 rfl rfl)
theorem dX0_tells_144 : decode cX0_tells 144 = .ok (.iload 7, 2) := dk_21 7 (dk_at dksX0_tells_6 6 rfl rfl)
theorem dX0_tells_146 : decode cX0_tells 146 = .ok (.iload 5, 2) := dk_21 5 (dk_at dksX0_tells_6 8 rfl rfl)
theorem dX0_tells_148 : decode cX0_tells 148 = .ok (.if_icmp .lt 6, 3) := dk_161 0 6 (dk_at dksX0_tells_6 10 rfl rfl)
theorem dX0_tells_151 : decode cX0_tells 151 = .ok (.goto 11, 3) := dk_167 0 11 (dk_at dksX0_tells_6 13 rfl rfl)
theorem dX0_tells_154 : decode cX0_tells 154 = .ok (.iload 7, 2) := dk_21 7 (dk_at dksX0_tells_6 16 rfl rfl)
theorem dX0_tells_156 : decode cX0_tells 156 = .ok (.istore 5, 2) := dk_54 5 (dk_at dksX0_tells_6 18 rfl rfl)
theorem dX0_tells_158 : decode cX0_tells 158 = .ok (.iload 6, 2) := dk_21 6 (dk_at dksX0_tells_6 20 rfl rfl)
theorem dX0_tells_160 : decode cX0_tells 160 = .ok (.istore 4, 2) := dk_54 4 (dk_at dksX0_tells_6 22 rfl rfl)
theorem dX0_tells_162 : decode cX0_tells 162 = .ok (.iinc 6 1, 3) := dk_132 6 1 (dk_at dksX0_tells_7 0 rfl rfl)
theorem dX0_tells_165 : decode cX0_tells 165 = .ok (.goto (-133), 3) := dk_167 255 123 (dk_at dksX0_tells_7 3 rfl rfl)
theorem dX0_tells_168 : decode cX0_tells 168 = .ok (.iload 4, 2) := dk_21 4 (dk_at dksX0_tells_7 6 rfl rfl)
theorem dX0_tells_170 : decode cX0_tells 170 = .ok (.iconst (-1), 1) := dk_2 (dk_at dksX0_tells_7 8 rfl rfl)
theorem dX0_tells_171 : decode cX0_tells 171 = .ok (.if_icmp .eq 7, 3) := dk_159 0 7 (dk_at dksX0_tells_7 9 rfl rfl)
theorem dX0_tells_174 : decode cX0_tells 174 = .ok (.iload_n 2, 1) := dk_28 (dk_at dksX0_tells_7 12 rfl rfl)
theorem dX0_tells_175 : decode cX0_tells 175 = .ok (.ifCond .ne 8, 3) := dk_154 0 8 (dk_at dksX0_tells_7 13 rfl rfl)
theorem dX0_tells_178 : decode cX0_tells 178 = .ok (.iload 4, 2) := dk_21 4 (dk_at dksX0_tells_7 16 rfl rfl)
theorem dX0_tells_180 : decode cX0_tells 180 = .ok (.goto 5, 3) := dk_167 0 5 (dk_at dksX0_tells_7 18 rfl rfl)
theorem dX0_tells_183 : decode cX0_tells 183 = .ok (.iload 5, 2) := dk_21 5 (dk_at dksX0_tells_7 21 rfl rfl)
theorem dX0_tells_185 : decode cX0_tells 185 = .ok (.ireturn, 1) := dk_172 (dk_at dksX0_tells_7 23 rfl rfl)
abbrev cX0_undo : ByteArray := prog_1_method_45_code
def yX0_undo : MethodName := ⟨RX0, "undo", "()Z"⟩
def dkwX0_undo_2 : List UInt8 := [87, 4, 172]
abbrev dktX0_undo_2 : List UInt8 := dkwX0_undo_2 ++ []
def dkwX0_undo_1 : List UInt8 := [180, 0, 148, 4, 100, 181, 0, 148, 42, 180, 0, 83, 42, 180, 0, 104, 42, 180, 0, 148, 50, 182, 1, 39]
abbrev dktX0_undo_1 : List UInt8 := dkwX0_undo_1 ++ dktX0_undo_2
def dkwX0_undo_0 : List UInt8 := [42, 180, 0, 148, 154, 0, 17, 42, 7, 182, 0, 118, 155, 0, 7, 4, 167, 0, 4, 3, 172, 42, 89]
abbrev dktX0_undo_0 : List UInt8 := dkwX0_undo_0 ++ dktX0_undo_1
theorem dksX0_undo_0 : cX0_undo.data.toList.drop 0 = dktX0_undo_0 := by decide +kernel
theorem dksX0_undo_1 : cX0_undo.data.toList.drop 23 = dktX0_undo_1 := dk_seg dksX0_undo_0 23 rfl rfl
theorem dksX0_undo_2 : cX0_undo.data.toList.drop 47 = dktX0_undo_2 := dk_seg dksX0_undo_1 24 rfl rfl
theorem dX0_undo_0 : decode cX0_undo 0 = .ok (.aload_n 0, 1) := dk_42 (dk_at dksX0_undo_0 0 rfl rfl)
theorem dX0_undo_1 : decode cX0_undo 1 = .ok (.getfield 148, 3) := dk_180 0 148 (dk_at dksX0_undo_0 1 rfl rfl)
theorem dX0_undo_4 : decode cX0_undo 4 = .ok (.ifCond .ne 17, 3) := dk_154 0 17 (dk_at dksX0_undo_0 4 rfl rfl)
theorem dX0_undo_7 : decode cX0_undo 7 = .ok (.aload_n 0, 1) := dk_42 (dk_at dksX0_undo_0 7 rfl rfl)
theorem dX0_undo_8 : decode cX0_undo 8 = .ok (.iconst 4, 1) := dk_7 (dk_at dksX0_undo_0 8 rfl rfl)
theorem dX0_undo_9 : decode cX0_undo 9 = .ok (.invokevirtual 118, 3) := dk_182 0 118 (dk_at dksX0_undo_0 9 rfl rfl)
theorem dX0_undo_12 : decode cX0_undo 12 = .ok (.ifCond .lt 7, 3) := dk_155 0 7 (dk_at dksX0_undo_0 12 rfl rfl)
theorem dX0_undo_15 : decode cX0_undo 15 = .ok (.iconst 1, 1) := dk_4 (dk_at dksX0_undo_0 15 rfl rfl)
theorem dX0_undo_16 : decode cX0_undo 16 = .ok (.goto 4, 3) := dk_167 0 4 (dk_at dksX0_undo_0 16 rfl rfl)
theorem dX0_undo_19 : decode cX0_undo 19 = .ok (.iconst 0, 1) := dk_3 (dk_at dksX0_undo_0 19 rfl rfl)
theorem dX0_undo_20 : decode cX0_undo 20 = .ok (.ireturn, 1) := dk_172 (dk_at dksX0_undo_0 20 rfl rfl)
theorem dX0_undo_21 : decode cX0_undo 21 = .ok (.aload_n 0, 1) := dk_42 (dk_at dksX0_undo_0 21 rfl rfl)
theorem dX0_undo_22 : decode cX0_undo 22 = .ok (.dup, 1) := dk_89 (dk_at dksX0_undo_0 22 rfl rfl)
theorem dX0_undo_23 : decode cX0_undo 23 = .ok (.getfield 148, 3) := dk_180 0 148 (dk_at dksX0_undo_1 0 rfl rfl)
theorem dX0_undo_26 : decode cX0_undo 26 = .ok (.iconst 1, 1) := dk_4 (dk_at dksX0_undo_1 3 rfl rfl)
theorem dX0_undo_27 : decode cX0_undo 27 = .ok (.isub, 1) := dk_100 (dk_at dksX0_undo_1 4 rfl rfl)
theorem dX0_undo_28 : decode cX0_undo 28 = .ok (.putfield 148, 3) := dk_181 0 148 (dk_at dksX0_undo_1 5 rfl rfl)
theorem dX0_undo_31 : decode cX0_undo 31 = .ok (.aload_n 0, 1) := dk_42 (dk_at dksX0_undo_1 8 rfl rfl)
theorem dX0_undo_32 : decode cX0_undo 32 = .ok (.getfield 83, 3) := dk_180 0 83 (dk_at dksX0_undo_1 9 rfl rfl)
theorem dX0_undo_35 : decode cX0_undo 35 = .ok (.aload_n 0, 1) := dk_42 (dk_at dksX0_undo_1 12 rfl rfl)
theorem dX0_undo_36 : decode cX0_undo 36 = .ok (.getfield 104, 3) := dk_180 0 104 (dk_at dksX0_undo_1 13 rfl rfl)
theorem dX0_undo_39 : decode cX0_undo 39 = .ok (.aload_n 0, 1) := dk_42 (dk_at dksX0_undo_1 16 rfl rfl)
theorem dX0_undo_40 : decode cX0_undo 40 = .ok (.getfield 148, 3) := dk_180 0 148 (dk_at dksX0_undo_1 17 rfl rfl)
theorem dX0_undo_43 : decode cX0_undo 43 = .ok (.aaload, 1) := dk_50 (dk_at dksX0_undo_1 20 rfl rfl)
theorem dX0_undo_44 : decode cX0_undo 44 = .ok (.invokevirtual 295, 3) := dk_182 1 39 (dk_at dksX0_undo_1 21 rfl rfl)
theorem dX0_undo_47 : decode cX0_undo 47 = .ok (.pop, 1) := dk_87 (dk_at dksX0_undo_2 0 rfl rfl)
theorem dX0_undo_48 : decode cX0_undo 48 = .ok (.iconst 1, 1) := dk_4 (dk_at dksX0_undo_2 1 rfl rfl)
theorem dX0_undo_49 : decode cX0_undo 49 = .ok (.ireturn, 1) := dk_172 (dk_at dksX0_undo_2 2 rfl rfl)
abbrev cX0_carry : ByteArray := prog_1_method_46_code
def yX0_carry : MethodName := ⟨RX0, "carry", "(III)Z"⟩
def dkwX0_carry_4 : List UInt8 := [172]
abbrev dktX0_carry_4 : List UInt8 := dkwX0_carry_4 ++ []
def dkwX0_carry_3 : List UInt8 := [182, 1, 64, 42, 180, 0, 83, 180, 0, 220, 27, 28, 79, 42, 180, 0, 83, 180, 0, 223, 27, 29, 79, 4]
abbrev dktX0_carry_3 : List UInt8 := dkwX0_carry_3 ++ dktX0_carry_4
def dkwX0_carry_2 : List UInt8 := [180, 0, 223, 27, 46, 29, 160, 0, 17, 42, 5, 182, 0, 118, 155, 0, 7, 4, 167, 0, 4, 3, 172, 42]
abbrev dktX0_carry_2 : List UInt8 := dkwX0_carry_2 ++ dktX0_carry_3
def dkwX0_carry_1 : List UInt8 := [184, 0, 193, 153, 0, 29, 42, 180, 0, 83, 180, 0, 220, 27, 46, 28, 160, 0, 30, 42, 180, 0, 83]
abbrev dktX0_carry_1 : List UInt8 := dkwX0_carry_1 ++ dktX0_carry_2
def dkwX0_carry_0 : List UInt8 := [42, 27, 182, 0, 216, 153, 0, 49, 28, 3, 16, 9, 184, 0, 193, 153, 0, 39, 29, 3, 16, 9]
abbrev dktX0_carry_0 : List UInt8 := dkwX0_carry_0 ++ dktX0_carry_1
theorem dksX0_carry_0 : cX0_carry.data.toList.drop 0 = dktX0_carry_0 := by decide +kernel
theorem dksX0_carry_1 : cX0_carry.data.toList.drop 22 = dktX0_carry_1 := dk_seg dksX0_carry_0 22 rfl rfl
theorem dksX0_carry_2 : cX0_carry.data.toList.drop 45 = dktX0_carry_2 := dk_seg dksX0_carry_1 23 rfl rfl
theorem dksX0_carry_3 : cX0_carry.data.toList.drop 69 = dktX0_carry_3 := dk_seg dksX0_carry_2 24 rfl rfl
theorem dksX0_carry_4 : cX0_carry.data.toList.drop 93 = dktX0_carry_4 := dk_seg dksX0_carry_3 24 rfl rfl
theorem dX0_carry_0 : decode cX0_carry 0 = .ok (.aload_n 0, 1) := dk_42 (dk_at dksX0_carry_0 0 rfl rfl)
theorem dX0_carry_1 : decode cX0_carry 1 = .ok (.iload_n 1, 1) := dk_27 (dk_at dksX0_carry_0 1 rfl rfl)
theorem dX0_carry_2 : decode cX0_carry 2 = .ok (.invokevirtual 216, 3) := dk_182 0 216 (dk_at dksX0_carry_0 2 rfl rfl)
theorem dX0_carry_5 : decode cX0_carry 5 = .ok (.ifCond .eq 49, 3) := dk_153 0 49 (dk_at dksX0_carry_0 5 rfl rfl)
theorem dX0_carry_8 : decode cX0_carry 8 = .ok (.iload_n 2, 1) := dk_28 (dk_at dksX0_carry_0 8 rfl rfl)
theorem dX0_carry_9 : decode cX0_carry 9 = .ok (.iconst 0, 1) := dk_3 (dk_at dksX0_carry_0 9 rfl rfl)
theorem dX0_carry_10 : decode cX0_carry 10 = .ok (.bipush 9, 2) := dk_16 9 (dk_at dksX0_carry_0 10 rfl rfl)
theorem dX0_carry_12 : decode cX0_carry 12 = .ok (.invokestatic 193, 3) := dk_184 0 193 (dk_at dksX0_carry_0 12 rfl rfl)
theorem dX0_carry_15 : decode cX0_carry 15 = .ok (.ifCond .eq 39, 3) := dk_153 0 39 (dk_at dksX0_carry_0 15 rfl rfl)
theorem dX0_carry_18 : decode cX0_carry 18 = .ok (.iload_n 3, 1) := dk_29 (dk_at dksX0_carry_0 18 rfl rfl)
theorem dX0_carry_19 : decode cX0_carry 19 = .ok (.iconst 0, 1) := dk_3 (dk_at dksX0_carry_0 19 rfl rfl)
theorem dX0_carry_20 : decode cX0_carry 20 = .ok (.bipush 9, 2) := dk_16 9 (dk_at dksX0_carry_0 20 rfl rfl)
theorem dX0_carry_22 : decode cX0_carry 22 = .ok (.invokestatic 193, 3) := dk_184 0 193 (dk_at dksX0_carry_1 0 rfl rfl)
theorem dX0_carry_25 : decode cX0_carry 25 = .ok (.ifCond .eq 29, 3) := dk_153 0 29 (dk_at dksX0_carry_1 3 rfl rfl)
theorem dX0_carry_28 : decode cX0_carry 28 = .ok (.aload_n 0, 1) := dk_42 (dk_at dksX0_carry_1 6 rfl rfl)
theorem dX0_carry_29 : decode cX0_carry 29 = .ok (.getfield 83, 3) := dk_180 0 83 (dk_at dksX0_carry_1 7 rfl rfl)
theorem dX0_carry_32 : decode cX0_carry 32 = .ok (.getfield 220, 3) := dk_180 0 220 (dk_at dksX0_carry_1 10 rfl rfl)
theorem dX0_carry_35 : decode cX0_carry 35 = .ok (.iload_n 1, 1) := dk_27 (dk_at dksX0_carry_1 13 rfl rfl)
theorem dX0_carry_36 : decode cX0_carry 36 = .ok (.iaload, 1) := dk_46 (dk_at dksX0_carry_1 14 rfl rfl)
theorem dX0_carry_37 : decode cX0_carry 37 = .ok (.iload_n 2, 1) := dk_28 (dk_at dksX0_carry_1 15 rfl rfl)
theorem dX0_carry_38 : decode cX0_carry 38 = .ok (.if_icmp .ne 30, 3) := dk_160 0 30 (dk_at dksX0_carry_1 16 rfl rfl)
theorem dX0_carry_41 : decode cX0_carry 41 = .ok (.aload_n 0, 1) := dk_42 (dk_at dksX0_carry_1 19 rfl rfl)
theorem dX0_carry_42 : decode cX0_carry 42 = .ok (.getfield 83, 3) := dk_180 0 83 (dk_at dksX0_carry_1 20 rfl rfl)
theorem dX0_carry_45 : decode cX0_carry 45 = .ok (.getfield 223, 3) := dk_180 0 223 (dk_at dksX0_carry_2 0 rfl rfl)
theorem dX0_carry_48 : decode cX0_carry 48 = .ok (.iload_n 1, 1) := dk_27 (dk_at dksX0_carry_2 3 rfl rfl)
theorem dX0_carry_49 : decode cX0_carry 49 = .ok (.iaload, 1) := dk_46 (dk_at dksX0_carry_2 4 rfl rfl)
theorem dX0_carry_50 : decode cX0_carry 50 = .ok (.iload_n 3, 1) := dk_29 (dk_at dksX0_carry_2 5 rfl rfl)
theorem dX0_carry_51 : decode cX0_carry 51 = .ok (.if_icmp .ne 17, 3) := dk_160 0 17 (dk_at dksX0_carry_2 6 rfl rfl)
theorem dX0_carry_54 : decode cX0_carry 54 = .ok (.aload_n 0, 1) := dk_42 (dk_at dksX0_carry_2 9 rfl rfl)
theorem dX0_carry_55 : decode cX0_carry 55 = .ok (.iconst 2, 1) := dk_5 (dk_at dksX0_carry_2 10 rfl rfl)
theorem dX0_carry_56 : decode cX0_carry 56 = .ok (.invokevirtual 118, 3) := dk_182 0 118 (dk_at dksX0_carry_2 11 rfl rfl)
theorem dX0_carry_59 : decode cX0_carry 59 = .ok (.ifCond .lt 7, 3) := dk_155 0 7 (dk_at dksX0_carry_2 14 rfl rfl)
theorem dX0_carry_62 : decode cX0_carry 62 = .ok (.iconst 1, 1) := dk_4 (dk_at dksX0_carry_2 17 rfl rfl)
theorem dX0_carry_63 : decode cX0_carry 63 = .ok (.goto 4, 3) := dk_167 0 4 (dk_at dksX0_carry_2 18 rfl rfl)
theorem dX0_carry_66 : decode cX0_carry 66 = .ok (.iconst 0, 1) := dk_3 (dk_at dksX0_carry_2 21 rfl rfl)
theorem dX0_carry_67 : decode cX0_carry 67 = .ok (.ireturn, 1) := dk_172 (dk_at dksX0_carry_2 22 rfl rfl)
theorem dX0_carry_68 : decode cX0_carry 68 = .ok (.aload_n 0, 1) := dk_42 (dk_at dksX0_carry_2 23 rfl rfl)
theorem dX0_carry_69 : decode cX0_carry 69 = .ok (.invokevirtual 320, 3) := dk_182 1 64 (dk_at dksX0_carry_3 0 rfl rfl)
theorem dX0_carry_72 : decode cX0_carry 72 = .ok (.aload_n 0, 1) := dk_42 (dk_at dksX0_carry_3 3 rfl rfl)
theorem dX0_carry_73 : decode cX0_carry 73 = .ok (.getfield 83, 3) := dk_180 0 83 (dk_at dksX0_carry_3 4 rfl rfl)
theorem dX0_carry_76 : decode cX0_carry 76 = .ok (.getfield 220, 3) := dk_180 0 220 (dk_at dksX0_carry_3 7 rfl rfl)
theorem dX0_carry_79 : decode cX0_carry 79 = .ok (.iload_n 1, 1) := dk_27 (dk_at dksX0_carry_3 10 rfl rfl)
theorem dX0_carry_80 : decode cX0_carry 80 = .ok (.iload_n 2, 1) := dk_28 (dk_at dksX0_carry_3 11 rfl rfl)
theorem dX0_carry_81 : decode cX0_carry 81 = .ok (.iastore, 1) := dk_79 (dk_at dksX0_carry_3 12 rfl rfl)
theorem dX0_carry_82 : decode cX0_carry 82 = .ok (.aload_n 0, 1) := dk_42 (dk_at dksX0_carry_3 13 rfl rfl)
theorem dX0_carry_83 : decode cX0_carry 83 = .ok (.getfield 83, 3) := dk_180 0 83 (dk_at dksX0_carry_3 14 rfl rfl)
theorem dX0_carry_86 : decode cX0_carry 86 = .ok (.getfield 223, 3) := dk_180 0 223 (dk_at dksX0_carry_3 17 rfl rfl)
theorem dX0_carry_89 : decode cX0_carry 89 = .ok (.iload_n 1, 1) := dk_27 (dk_at dksX0_carry_3 20 rfl rfl)
theorem dX0_carry_90 : decode cX0_carry 90 = .ok (.iload_n 3, 1) := dk_29 (dk_at dksX0_carry_3 21 rfl rfl)
theorem dX0_carry_91 : decode cX0_carry 91 = .ok (.iastore, 1) := dk_79 (dk_at dksX0_carry_3 22 rfl rfl)
theorem dX0_carry_92 : decode cX0_carry 92 = .ok (.iconst 1, 1) := dk_4 (dk_at dksX0_carry_3 23 rfl rfl)
theorem dX0_carry_93 : decode cX0_carry 93 = .ok (.ireturn, 1) := dk_172 (dk_at dksX0_carry_4 0 rfl rfl)
abbrev cX0_keeps : ByteArray := prog_1_method_44_code
def yX0_keeps : MethodName := ⟨RX0, "keeps", "()V"⟩
def dkwX0_keeps_3 : List UInt8 := [180, 0, 83, 182, 1, 39, 87, 42, 89, 180, 0, 148, 4, 96, 181, 0, 148, 177]
abbrev dktX0_keeps_3 : List UInt8 := dkwX0_keeps_3 ++ []
def dkwX0_keeps_2 : List UInt8 := [16, 19, 43, 83, 42, 89, 180, 0, 148, 4, 100, 181, 0, 148, 42, 180, 0, 104, 42, 180, 0, 148, 50, 42]
abbrev dktX0_keeps_2 : List UInt8 := dkwX0_keeps_2 ++ dktX0_keeps_3
def dkwX0_keeps_1 : List UInt8 := [42, 180, 0, 104, 28, 4, 100, 42, 180, 0, 104, 28, 50, 83, 132, 2, 1, 167, 255, 233, 42, 180, 0, 104]
abbrev dktX0_keeps_1 : List UInt8 := dkwX0_keeps_1 ++ dktX0_keeps_2
def dkwX0_keeps_0 : List UInt8 := [42, 180, 0, 148, 16, 20, 160, 0, 56, 42, 180, 0, 104, 3, 50, 76, 4, 61, 28, 16, 20, 162, 0, 23]
abbrev dktX0_keeps_0 : List UInt8 := dkwX0_keeps_0 ++ dktX0_keeps_1
theorem dksX0_keeps_0 : cX0_keeps.data.toList.drop 0 = dktX0_keeps_0 := by decide +kernel
theorem dksX0_keeps_1 : cX0_keeps.data.toList.drop 24 = dktX0_keeps_1 := dk_seg dksX0_keeps_0 24 rfl rfl
theorem dksX0_keeps_2 : cX0_keeps.data.toList.drop 48 = dktX0_keeps_2 := dk_seg dksX0_keeps_1 24 rfl rfl
theorem dksX0_keeps_3 : cX0_keeps.data.toList.drop 72 = dktX0_keeps_3 := dk_seg dksX0_keeps_2 24 rfl rfl
theorem dX0_keeps_0 : decode cX0_keeps 0 = .ok (.aload_n 0, 1) := dk_42 (dk_at dksX0_keeps_0 0 rfl rfl)
theorem dX0_keeps_1 : decode cX0_keeps 1 = .ok (.getfield 148, 3) := dk_180 0 148 (dk_at dksX0_keeps_0 1 rfl rfl)
theorem dX0_keeps_4 : decode cX0_keeps 4 = .ok (.bipush 20, 2) := dk_16 20 (dk_at dksX0_keeps_0 4 rfl rfl)
theorem dX0_keeps_6 : decode cX0_keeps 6 = .ok (.if_icmp .ne 56, 3) := dk_160 0 56 (dk_at dksX0_keeps_0 6 rfl rfl)
theorem dX0_keeps_9 : decode cX0_keeps 9 = .ok (.aload_n 0, 1) := dk_42 (dk_at dksX0_keeps_0 9 rfl rfl)
theorem dX0_keeps_10 : decode cX0_keeps 10 = .ok (.getfield 104, 3) := dk_180 0 104 (dk_at dksX0_keeps_0 10 rfl rfl)
theorem dX0_keeps_13 : decode cX0_keeps 13 = .ok (.iconst 0, 1) := dk_3 (dk_at dksX0_keeps_0 13 rfl rfl)
theorem dX0_keeps_14 : decode cX0_keeps 14 = .ok (.aaload, 1) := dk_50 (dk_at dksX0_keeps_0 14 rfl rfl)
theorem dX0_keeps_15 : decode cX0_keeps 15 = .ok (.astore_n 1, 1) := dk_76 (dk_at dksX0_keeps_0 15 rfl rfl)
theorem dX0_keeps_16 : decode cX0_keeps 16 = .ok (.iconst 1, 1) := dk_4 (dk_at dksX0_keeps_0 16 rfl rfl)
theorem dX0_keeps_17 : decode cX0_keeps 17 = .ok (.istore_n 2, 1) := dk_61 (dk_at dksX0_keeps_0 17 rfl rfl)
theorem dX0_keeps_18 : decode cX0_keeps 18 = .ok (.iload_n 2, 1) := dk_28 (dk_at dksX0_keeps_0 18 rfl rfl)
theorem dX0_keeps_19 : decode cX0_keeps 19 = .ok (.bipush 20, 2) := dk_16 20 (dk_at dksX0_keeps_0 19 rfl rfl)
theorem dX0_keeps_21 : decode cX0_keeps 21 = .ok (.if_icmp .ge 23, 3) := dk_162 0 23 (dk_at dksX0_keeps_0 21 rfl rfl)
theorem dX0_keeps_24 : decode cX0_keeps 24 = .ok (.aload_n 0, 1) := dk_42 (dk_at dksX0_keeps_1 0 rfl rfl)
theorem dX0_keeps_25 : decode cX0_keeps 25 = .ok (.getfield 104, 3) := dk_180 0 104 (dk_at dksX0_keeps_1 1 rfl rfl)
theorem dX0_keeps_28 : decode cX0_keeps 28 = .ok (.iload_n 2, 1) := dk_28 (dk_at dksX0_keeps_1 4 rfl rfl)
theorem dX0_keeps_29 : decode cX0_keeps 29 = .ok (.iconst 1, 1) := dk_4 (dk_at dksX0_keeps_1 5 rfl rfl)
theorem dX0_keeps_30 : decode cX0_keeps 30 = .ok (.isub, 1) := dk_100 (dk_at dksX0_keeps_1 6 rfl rfl)
theorem dX0_keeps_31 : decode cX0_keeps 31 = .ok (.aload_n 0, 1) := dk_42 (dk_at dksX0_keeps_1 7 rfl rfl)
theorem dX0_keeps_32 : decode cX0_keeps 32 = .ok (.getfield 104, 3) := dk_180 0 104 (dk_at dksX0_keeps_1 8 rfl rfl)
theorem dX0_keeps_35 : decode cX0_keeps 35 = .ok (.iload_n 2, 1) := dk_28 (dk_at dksX0_keeps_1 11 rfl rfl)
theorem dX0_keeps_36 : decode cX0_keeps 36 = .ok (.aaload, 1) := dk_50 (dk_at dksX0_keeps_1 12 rfl rfl)
theorem dX0_keeps_37 : decode cX0_keeps 37 = .ok (.aastore, 1) := dk_83 (dk_at dksX0_keeps_1 13 rfl rfl)
theorem dX0_keeps_38 : decode cX0_keeps 38 = .ok (.iinc 2 1, 3) := dk_132 2 1 (dk_at dksX0_keeps_1 14 rfl rfl)
theorem dX0_keeps_41 : decode cX0_keeps 41 = .ok (.goto (-23), 3) := dk_167 255 233 (dk_at dksX0_keeps_1 17 rfl rfl)
theorem dX0_keeps_44 : decode cX0_keeps 44 = .ok (.aload_n 0, 1) := dk_42 (dk_at dksX0_keeps_1 20 rfl rfl)
theorem dX0_keeps_45 : decode cX0_keeps 45 = .ok (.getfield 104, 3) := dk_180 0 104 (dk_at dksX0_keeps_1 21 rfl rfl)
theorem dX0_keeps_48 : decode cX0_keeps 48 = .ok (.bipush 19, 2) := dk_16 19 (dk_at dksX0_keeps_2 0 rfl rfl)
theorem dX0_keeps_50 : decode cX0_keeps 50 = .ok (.aload_n 1, 1) := dk_43 (dk_at dksX0_keeps_2 2 rfl rfl)
theorem dX0_keeps_51 : decode cX0_keeps 51 = .ok (.aastore, 1) := dk_83 (dk_at dksX0_keeps_2 3 rfl rfl)
theorem dX0_keeps_52 : decode cX0_keeps 52 = .ok (.aload_n 0, 1) := dk_42 (dk_at dksX0_keeps_2 4 rfl rfl)
theorem dX0_keeps_53 : decode cX0_keeps 53 = .ok (.dup, 1) := dk_89 (dk_at dksX0_keeps_2 5 rfl rfl)
theorem dX0_keeps_54 : decode cX0_keeps 54 = .ok (.getfield 148, 3) := dk_180 0 148 (dk_at dksX0_keeps_2 6 rfl rfl)
theorem dX0_keeps_57 : decode cX0_keeps 57 = .ok (.iconst 1, 1) := dk_4 (dk_at dksX0_keeps_2 9 rfl rfl)
theorem dX0_keeps_58 : decode cX0_keeps 58 = .ok (.isub, 1) := dk_100 (dk_at dksX0_keeps_2 10 rfl rfl)
theorem dX0_keeps_59 : decode cX0_keeps 59 = .ok (.putfield 148, 3) := dk_181 0 148 (dk_at dksX0_keeps_2 11 rfl rfl)
theorem dX0_keeps_62 : decode cX0_keeps 62 = .ok (.aload_n 0, 1) := dk_42 (dk_at dksX0_keeps_2 14 rfl rfl)
theorem dX0_keeps_63 : decode cX0_keeps 63 = .ok (.getfield 104, 3) := dk_180 0 104 (dk_at dksX0_keeps_2 15 rfl rfl)
theorem dX0_keeps_66 : decode cX0_keeps 66 = .ok (.aload_n 0, 1) := dk_42 (dk_at dksX0_keeps_2 18 rfl rfl)
theorem dX0_keeps_67 : decode cX0_keeps 67 = .ok (.getfield 148, 3) := dk_180 0 148 (dk_at dksX0_keeps_2 19 rfl rfl)
theorem dX0_keeps_70 : decode cX0_keeps 70 = .ok (.aaload, 1) := dk_50 (dk_at dksX0_keeps_2 22 rfl rfl)
theorem dX0_keeps_71 : decode cX0_keeps 71 = .ok (.aload_n 0, 1) := dk_42 (dk_at dksX0_keeps_2 23 rfl rfl)
theorem dX0_keeps_72 : decode cX0_keeps 72 = .ok (.getfield 83, 3) := dk_180 0 83 (dk_at dksX0_keeps_3 0 rfl rfl)
theorem dX0_keeps_75 : decode cX0_keeps 75 = .ok (.invokevirtual 295, 3) := dk_182 1 39 (dk_at dksX0_keeps_3 3 rfl rfl)
theorem dX0_keeps_78 : decode cX0_keeps 78 = .ok (.pop, 1) := dk_87 (dk_at dksX0_keeps_3 6 rfl rfl)
theorem dX0_keeps_79 : decode cX0_keeps 79 = .ok (.aload_n 0, 1) := dk_42 (dk_at dksX0_keeps_3 7 rfl rfl)
theorem dX0_keeps_80 : decode cX0_keeps 80 = .ok (.dup, 1) := dk_89 (dk_at dksX0_keeps_3 8 rfl rfl)
theorem dX0_keeps_81 : decode cX0_keeps 81 = .ok (.getfield 148, 3) := dk_180 0 148 (dk_at dksX0_keeps_3 9 rfl rfl)
theorem dX0_keeps_84 : decode cX0_keeps 84 = .ok (.iconst 1, 1) := dk_4 (dk_at dksX0_keeps_3 12 rfl rfl)
theorem dX0_keeps_85 : decode cX0_keeps 85 = .ok (.iadd, 1) := dk_96 (dk_at dksX0_keeps_3 13 rfl rfl)
theorem dX0_keeps_86 : decode cX0_keeps 86 = .ok (.putfield 148, 3) := dk_181 0 148 (dk_at dksX0_keeps_3 14 rfl rfl)
theorem dX0_keeps_89 : decode cX0_keeps 89 = .ok (.return_, 1) := dk_177 (dk_at dksX0_keeps_3 17 rfl rfl)
abbrev cX0_retell : ByteArray := prog_1_method_47_code
def yX0_retell : MethodName := ⟨RX0, "retell", "(II)Z"⟩
def dkwX0_retell_2 : List UInt8 := [182, 1, 64, 42, 180, 0, 83, 180, 0, 226, 27, 28, 79, 4, 172]
abbrev dktX0_retell_2 : List UInt8 := dkwX0_retell_2 ++ []
def dkwX0_retell_1 : List UInt8 := [180, 0, 226, 27, 46, 28, 160, 0, 17, 42, 5, 182, 0, 118, 155, 0, 7, 4, 167, 0, 4, 3, 172, 42]
abbrev dktX0_retell_1 : List UInt8 := dkwX0_retell_1 ++ dktX0_retell_2
def dkwX0_retell_0 : List UInt8 := [42, 27, 182, 0, 216, 153, 0, 26, 28, 3, 16, 9, 184, 0, 193, 153, 0, 16, 42, 180, 0, 83]
abbrev dktX0_retell_0 : List UInt8 := dkwX0_retell_0 ++ dktX0_retell_1
theorem dksX0_retell_0 : cX0_retell.data.toList.drop 0 = dktX0_retell_0 := by decide +kernel
theorem dksX0_retell_1 : cX0_retell.data.toList.drop 22 = dktX0_retell_1 := dk_seg dksX0_retell_0 22 rfl rfl
theorem dksX0_retell_2 : cX0_retell.data.toList.drop 46 = dktX0_retell_2 := dk_seg dksX0_retell_1 24 rfl rfl
theorem dX0_retell_0 : decode cX0_retell 0 = .ok (.aload_n 0, 1) := dk_42 (dk_at dksX0_retell_0 0 rfl rfl)
theorem dX0_retell_1 : decode cX0_retell 1 = .ok (.iload_n 1, 1) := dk_27 (dk_at dksX0_retell_0 1 rfl rfl)
theorem dX0_retell_2 : decode cX0_retell 2 = .ok (.invokevirtual 216, 3) := dk_182 0 216 (dk_at dksX0_retell_0 2 rfl rfl)
theorem dX0_retell_5 : decode cX0_retell 5 = .ok (.ifCond .eq 26, 3) := dk_153 0 26 (dk_at dksX0_retell_0 5 rfl rfl)
theorem dX0_retell_8 : decode cX0_retell 8 = .ok (.iload_n 2, 1) := dk_28 (dk_at dksX0_retell_0 8 rfl rfl)
theorem dX0_retell_9 : decode cX0_retell 9 = .ok (.iconst 0, 1) := dk_3 (dk_at dksX0_retell_0 9 rfl rfl)
theorem dX0_retell_10 : decode cX0_retell 10 = .ok (.bipush 9, 2) := dk_16 9 (dk_at dksX0_retell_0 10 rfl rfl)
theorem dX0_retell_12 : decode cX0_retell 12 = .ok (.invokestatic 193, 3) := dk_184 0 193 (dk_at dksX0_retell_0 12 rfl rfl)
theorem dX0_retell_15 : decode cX0_retell 15 = .ok (.ifCond .eq 16, 3) := dk_153 0 16 (dk_at dksX0_retell_0 15 rfl rfl)
theorem dX0_retell_18 : decode cX0_retell 18 = .ok (.aload_n 0, 1) := dk_42 (dk_at dksX0_retell_0 18 rfl rfl)
theorem dX0_retell_19 : decode cX0_retell 19 = .ok (.getfield 83, 3) := dk_180 0 83 (dk_at dksX0_retell_0 19 rfl rfl)
theorem dX0_retell_22 : decode cX0_retell 22 = .ok (.getfield 226, 3) := dk_180 0 226 (dk_at dksX0_retell_1 0 rfl rfl)
theorem dX0_retell_25 : decode cX0_retell 25 = .ok (.iload_n 1, 1) := dk_27 (dk_at dksX0_retell_1 3 rfl rfl)
theorem dX0_retell_26 : decode cX0_retell 26 = .ok (.iaload, 1) := dk_46 (dk_at dksX0_retell_1 4 rfl rfl)
theorem dX0_retell_27 : decode cX0_retell 27 = .ok (.iload_n 2, 1) := dk_28 (dk_at dksX0_retell_1 5 rfl rfl)
theorem dX0_retell_28 : decode cX0_retell 28 = .ok (.if_icmp .ne 17, 3) := dk_160 0 17 (dk_at dksX0_retell_1 6 rfl rfl)
theorem dX0_retell_31 : decode cX0_retell 31 = .ok (.aload_n 0, 1) := dk_42 (dk_at dksX0_retell_1 9 rfl rfl)
theorem dX0_retell_32 : decode cX0_retell 32 = .ok (.iconst 2, 1) := dk_5 (dk_at dksX0_retell_1 10 rfl rfl)
theorem dX0_retell_33 : decode cX0_retell 33 = .ok (.invokevirtual 118, 3) := dk_182 0 118 (dk_at dksX0_retell_1 11 rfl rfl)
theorem dX0_retell_36 : decode cX0_retell 36 = .ok (.ifCond .lt 7, 3) := dk_155 0 7 (dk_at dksX0_retell_1 14 rfl rfl)
theorem dX0_retell_39 : decode cX0_retell 39 = .ok (.iconst 1, 1) := dk_4 (dk_at dksX0_retell_1 17 rfl rfl)
theorem dX0_retell_40 : decode cX0_retell 40 = .ok (.goto 4, 3) := dk_167 0 4 (dk_at dksX0_retell_1 18 rfl rfl)
theorem dX0_retell_43 : decode cX0_retell 43 = .ok (.iconst 0, 1) := dk_3 (dk_at dksX0_retell_1 21 rfl rfl)
theorem dX0_retell_44 : decode cX0_retell 44 = .ok (.ireturn, 1) := dk_172 (dk_at dksX0_retell_1 22 rfl rfl)
theorem dX0_retell_45 : decode cX0_retell 45 = .ok (.aload_n 0, 1) := dk_42 (dk_at dksX0_retell_1 23 rfl rfl)
theorem dX0_retell_46 : decode cX0_retell 46 = .ok (.invokevirtual 320, 3) := dk_182 1 64 (dk_at dksX0_retell_2 0 rfl rfl)
theorem dX0_retell_49 : decode cX0_retell 49 = .ok (.aload_n 0, 1) := dk_42 (dk_at dksX0_retell_2 3 rfl rfl)
theorem dX0_retell_50 : decode cX0_retell 50 = .ok (.getfield 83, 3) := dk_180 0 83 (dk_at dksX0_retell_2 4 rfl rfl)
theorem dX0_retell_53 : decode cX0_retell 53 = .ok (.getfield 226, 3) := dk_180 0 226 (dk_at dksX0_retell_2 7 rfl rfl)
theorem dX0_retell_56 : decode cX0_retell 56 = .ok (.iload_n 1, 1) := dk_27 (dk_at dksX0_retell_2 10 rfl rfl)
theorem dX0_retell_57 : decode cX0_retell 57 = .ok (.iload_n 2, 1) := dk_28 (dk_at dksX0_retell_2 11 rfl rfl)
theorem dX0_retell_58 : decode cX0_retell 58 = .ok (.iastore, 1) := dk_79 (dk_at dksX0_retell_2 12 rfl rfl)
theorem dX0_retell_59 : decode cX0_retell 59 = .ok (.iconst 1, 1) := dk_4 (dk_at dksX0_retell_2 13 rfl rfl)
theorem dX0_retell_60 : decode cX0_retell 60 = .ok (.ireturn, 1) := dk_172 (dk_at dksX0_retell_2 14 rfl rfl)
abbrev cX0_lend : ByteArray := prog_1_method_48_code
def yX0_lend : MethodName := ⟨RX0, "lend", "(II)Z"⟩
def dkwX0_lend_3 : List UInt8 := [130, 181, 0, 179, 4, 172]
abbrev dktX0_lend_3 : List UInt8 := dkwX0_lend_3 ++ []
def dkwX0_lend_2 : List UInt8 := [155, 0, 7, 4, 167, 0, 4, 3, 172, 42, 182, 1, 64, 42, 180, 0, 83, 89, 180, 0, 179, 4, 27, 120]
abbrev dktX0_lend_2 : List UInt8 := dkwX0_lend_2 ++ dktX0_lend_3
def dkwX0_lend_1 : List UInt8 := [27, 184, 0, 238, 28, 4, 160, 0, 7, 4, 167, 0, 4, 3, 160, 0, 17, 42, 5, 182, 0, 118]
abbrev dktX0_lend_1 : List UInt8 := dkwX0_lend_1 ++ dktX0_lend_2
def dkwX0_lend_0 : List UInt8 := [42, 27, 182, 0, 242, 153, 0, 36, 28, 3, 4, 184, 0, 193, 153, 0, 27, 42, 180, 0, 83, 180, 0, 179]
abbrev dktX0_lend_0 : List UInt8 := dkwX0_lend_0 ++ dktX0_lend_1
theorem dksX0_lend_0 : cX0_lend.data.toList.drop 0 = dktX0_lend_0 := by decide +kernel
theorem dksX0_lend_1 : cX0_lend.data.toList.drop 24 = dktX0_lend_1 := dk_seg dksX0_lend_0 24 rfl rfl
theorem dksX0_lend_2 : cX0_lend.data.toList.drop 46 = dktX0_lend_2 := dk_seg dksX0_lend_1 22 rfl rfl
theorem dksX0_lend_3 : cX0_lend.data.toList.drop 70 = dktX0_lend_3 := dk_seg dksX0_lend_2 24 rfl rfl
theorem dX0_lend_0 : decode cX0_lend 0 = .ok (.aload_n 0, 1) := dk_42 (dk_at dksX0_lend_0 0 rfl rfl)
theorem dX0_lend_1 : decode cX0_lend 1 = .ok (.iload_n 1, 1) := dk_27 (dk_at dksX0_lend_0 1 rfl rfl)
theorem dX0_lend_2 : decode cX0_lend 2 = .ok (.invokevirtual 242, 3) := dk_182 0 242 (dk_at dksX0_lend_0 2 rfl rfl)
theorem dX0_lend_5 : decode cX0_lend 5 = .ok (.ifCond .eq 36, 3) := dk_153 0 36 (dk_at dksX0_lend_0 5 rfl rfl)
theorem dX0_lend_8 : decode cX0_lend 8 = .ok (.iload_n 2, 1) := dk_28 (dk_at dksX0_lend_0 8 rfl rfl)
theorem dX0_lend_9 : decode cX0_lend 9 = .ok (.iconst 0, 1) := dk_3 (dk_at dksX0_lend_0 9 rfl rfl)
theorem dX0_lend_10 : decode cX0_lend 10 = .ok (.iconst 1, 1) := dk_4 (dk_at dksX0_lend_0 10 rfl rfl)
theorem dX0_lend_11 : decode cX0_lend 11 = .ok (.invokestatic 193, 3) := dk_184 0 193 (dk_at dksX0_lend_0 11 rfl rfl)
theorem dX0_lend_14 : decode cX0_lend 14 = .ok (.ifCond .eq 27, 3) := dk_153 0 27 (dk_at dksX0_lend_0 14 rfl rfl)
theorem dX0_lend_17 : decode cX0_lend 17 = .ok (.aload_n 0, 1) := dk_42 (dk_at dksX0_lend_0 17 rfl rfl)
theorem dX0_lend_18 : decode cX0_lend 18 = .ok (.getfield 83, 3) := dk_180 0 83 (dk_at dksX0_lend_0 18 rfl rfl)
theorem dX0_lend_21 : decode cX0_lend 21 = .ok (.getfield 179, 3) := dk_180 0 179 (dk_at dksX0_lend_0 21 rfl rfl)
theorem dX0_lend_24 : decode cX0_lend 24 = .ok (.iload_n 1, 1) := dk_27 (dk_at dksX0_lend_1 0 rfl rfl)
theorem dX0_lend_25 : decode cX0_lend 25 = .ok (.invokestatic 238, 3) := dk_184 0 238 (dk_at dksX0_lend_1 1 rfl rfl)
theorem dX0_lend_28 : decode cX0_lend 28 = .ok (.iload_n 2, 1) := dk_28 (dk_at dksX0_lend_1 4 rfl rfl)
theorem dX0_lend_29 : decode cX0_lend 29 = .ok (.iconst 1, 1) := dk_4 (dk_at dksX0_lend_1 5 rfl rfl)
theorem dX0_lend_30 : decode cX0_lend 30 = .ok (.if_icmp .ne 7, 3) := dk_160 0 7 (dk_at dksX0_lend_1 6 rfl rfl)
theorem dX0_lend_33 : decode cX0_lend 33 = .ok (.iconst 1, 1) := dk_4 (dk_at dksX0_lend_1 9 rfl rfl)
theorem dX0_lend_34 : decode cX0_lend 34 = .ok (.goto 4, 3) := dk_167 0 4 (dk_at dksX0_lend_1 10 rfl rfl)
theorem dX0_lend_37 : decode cX0_lend 37 = .ok (.iconst 0, 1) := dk_3 (dk_at dksX0_lend_1 13 rfl rfl)
theorem dX0_lend_38 : decode cX0_lend 38 = .ok (.if_icmp .ne 17, 3) := dk_160 0 17 (dk_at dksX0_lend_1 14 rfl rfl)
theorem dX0_lend_41 : decode cX0_lend 41 = .ok (.aload_n 0, 1) := dk_42 (dk_at dksX0_lend_1 17 rfl rfl)
theorem dX0_lend_42 : decode cX0_lend 42 = .ok (.iconst 2, 1) := dk_5 (dk_at dksX0_lend_1 18 rfl rfl)
theorem dX0_lend_43 : decode cX0_lend 43 = .ok (.invokevirtual 118, 3) := dk_182 0 118 (dk_at dksX0_lend_1 19 rfl rfl)
theorem dX0_lend_46 : decode cX0_lend 46 = .ok (.ifCond .lt 7, 3) := dk_155 0 7 (dk_at dksX0_lend_2 0 rfl rfl)
theorem dX0_lend_49 : decode cX0_lend 49 = .ok (.iconst 1, 1) := dk_4 (dk_at dksX0_lend_2 3 rfl rfl)
theorem dX0_lend_50 : decode cX0_lend 50 = .ok (.goto 4, 3) := dk_167 0 4 (dk_at dksX0_lend_2 4 rfl rfl)
theorem dX0_lend_53 : decode cX0_lend 53 = .ok (.iconst 0, 1) := dk_3 (dk_at dksX0_lend_2 7 rfl rfl)
theorem dX0_lend_54 : decode cX0_lend 54 = .ok (.ireturn, 1) := dk_172 (dk_at dksX0_lend_2 8 rfl rfl)
theorem dX0_lend_55 : decode cX0_lend 55 = .ok (.aload_n 0, 1) := dk_42 (dk_at dksX0_lend_2 9 rfl rfl)
theorem dX0_lend_56 : decode cX0_lend 56 = .ok (.invokevirtual 320, 3) := dk_182 1 64 (dk_at dksX0_lend_2 10 rfl rfl)
theorem dX0_lend_59 : decode cX0_lend 59 = .ok (.aload_n 0, 1) := dk_42 (dk_at dksX0_lend_2 13 rfl rfl)
theorem dX0_lend_60 : decode cX0_lend 60 = .ok (.getfield 83, 3) := dk_180 0 83 (dk_at dksX0_lend_2 14 rfl rfl)
theorem dX0_lend_63 : decode cX0_lend 63 = .ok (.dup, 1) := dk_89 (dk_at dksX0_lend_2 17 rfl rfl)
theorem dX0_lend_64 : decode cX0_lend 64 = .ok (.getfield 179, 3) := dk_180 0 179 (dk_at dksX0_lend_2 18 rfl rfl)
theorem dX0_lend_67 : decode cX0_lend 67 = .ok (.iconst 1, 1) := dk_4 (dk_at dksX0_lend_2 21 rfl rfl)
theorem dX0_lend_68 : decode cX0_lend 68 = .ok (.iload_n 1, 1) := dk_27 (dk_at dksX0_lend_2 22 rfl rfl)
theorem dX0_lend_69 : decode cX0_lend 69 = .ok (.ishl, 1) := dk_120 (dk_at dksX0_lend_2 23 rfl rfl)
theorem dX0_lend_70 : decode cX0_lend 70 = .ok (.ixor, 1) := dk_130 (dk_at dksX0_lend_3 0 rfl rfl)
theorem dX0_lend_71 : decode cX0_lend 71 = .ok (.putfield 179, 3) := dk_181 0 179 (dk_at dksX0_lend_3 1 rfl rfl)
theorem dX0_lend_74 : decode cX0_lend 74 = .ok (.iconst 1, 1) := dk_4 (dk_at dksX0_lend_3 4 rfl rfl)
theorem dX0_lend_75 : decode cX0_lend 75 = .ok (.ireturn, 1) := dk_172 (dk_at dksX0_lend_3 5 rfl rfl)
abbrev cX0_days : ByteArray := prog_1_method_49_code
def yX0_days : MethodName := ⟨RX0, "days", "(I)I"⟩
def dkwX0_days_1 : List UInt8 := [62, 29, 27, 162, 0, 19, 28, 42, 180, 0, 83, 182, 1, 46, 96, 61, 132, 3, 1, 167, 255, 238, 28, 172]
abbrev dktX0_days_1 : List UInt8 := dkwX0_days_1 ++ []
def dkwX0_days_0 : List UInt8 := [42, 27, 4, 16, 100, 182, 1, 43, 154, 0, 9, 42, 6, 182, 0, 118, 172, 42, 182, 1, 64, 3, 61, 3]
abbrev dktX0_days_0 : List UInt8 := dkwX0_days_0 ++ dktX0_days_1
theorem dksX0_days_0 : cX0_days.data.toList.drop 0 = dktX0_days_0 := by decide +kernel
theorem dksX0_days_1 : cX0_days.data.toList.drop 24 = dktX0_days_1 := dk_seg dksX0_days_0 24 rfl rfl
theorem dX0_days_0 : decode cX0_days 0 = .ok (.aload_n 0, 1) := dk_42 (dk_at dksX0_days_0 0 rfl rfl)
theorem dX0_days_1 : decode cX0_days 1 = .ok (.iload_n 1, 1) := dk_27 (dk_at dksX0_days_0 1 rfl rfl)
theorem dX0_days_2 : decode cX0_days 2 = .ok (.iconst 1, 1) := dk_4 (dk_at dksX0_days_0 2 rfl rfl)
theorem dX0_days_3 : decode cX0_days 3 = .ok (.bipush 100, 2) := dk_16 100 (dk_at dksX0_days_0 3 rfl rfl)
theorem dX0_days_5 : decode cX0_days 5 = .ok (.invokevirtual 299, 3) := dk_182 1 43 (dk_at dksX0_days_0 5 rfl rfl)
theorem dX0_days_8 : decode cX0_days 8 = .ok (.ifCond .ne 9, 3) := dk_154 0 9 (dk_at dksX0_days_0 8 rfl rfl)
theorem dX0_days_11 : decode cX0_days 11 = .ok (.aload_n 0, 1) := dk_42 (dk_at dksX0_days_0 11 rfl rfl)
theorem dX0_days_12 : decode cX0_days 12 = .ok (.iconst 3, 1) := dk_6 (dk_at dksX0_days_0 12 rfl rfl)
theorem dX0_days_13 : decode cX0_days 13 = .ok (.invokevirtual 118, 3) := dk_182 0 118 (dk_at dksX0_days_0 13 rfl rfl)
theorem dX0_days_16 : decode cX0_days 16 = .ok (.ireturn, 1) := dk_172 (dk_at dksX0_days_0 16 rfl rfl)
theorem dX0_days_17 : decode cX0_days 17 = .ok (.aload_n 0, 1) := dk_42 (dk_at dksX0_days_0 17 rfl rfl)
theorem dX0_days_18 : decode cX0_days 18 = .ok (.invokevirtual 320, 3) := dk_182 1 64 (dk_at dksX0_days_0 18 rfl rfl)
theorem dX0_days_21 : decode cX0_days 21 = .ok (.iconst 0, 1) := dk_3 (dk_at dksX0_days_0 21 rfl rfl)
theorem dX0_days_22 : decode cX0_days 22 = .ok (.istore_n 2, 1) := dk_61 (dk_at dksX0_days_0 22 rfl rfl)
theorem dX0_days_23 : decode cX0_days 23 = .ok (.iconst 0, 1) := dk_3 (dk_at dksX0_days_0 23 rfl rfl)
theorem dX0_days_24 : decode cX0_days 24 = .ok (.istore_n 3, 1) := dk_62 (dk_at dksX0_days_1 0 rfl rfl)
theorem dX0_days_25 : decode cX0_days 25 = .ok (.iload_n 3, 1) := dk_29 (dk_at dksX0_days_1 1 rfl rfl)
theorem dX0_days_26 : decode cX0_days 26 = .ok (.iload_n 1, 1) := dk_27 (dk_at dksX0_days_1 2 rfl rfl)
theorem dX0_days_27 : decode cX0_days 27 = .ok (.if_icmp .ge 19, 3) := dk_162 0 19 (dk_at dksX0_days_1 3 rfl rfl)
theorem dX0_days_30 : decode cX0_days 30 = .ok (.iload_n 2, 1) := dk_28 (dk_at dksX0_days_1 6 rfl rfl)
theorem dX0_days_31 : decode cX0_days 31 = .ok (.aload_n 0, 1) := dk_42 (dk_at dksX0_days_1 7 rfl rfl)
theorem dX0_days_32 : decode cX0_days 32 = .ok (.getfield 83, 3) := dk_180 0 83 (dk_at dksX0_days_1 8 rfl rfl)
theorem dX0_days_35 : decode cX0_days 35 = .ok (.invokevirtual 302, 3) := dk_182 1 46 (dk_at dksX0_days_1 11 rfl rfl)
theorem dX0_days_38 : decode cX0_days 38 = .ok (.iadd, 1) := dk_96 (dk_at dksX0_days_1 14 rfl rfl)
theorem dX0_days_39 : decode cX0_days 39 = .ok (.istore_n 2, 1) := dk_61 (dk_at dksX0_days_1 15 rfl rfl)
theorem dX0_days_40 : decode cX0_days 40 = .ok (.iinc 3 1, 3) := dk_132 3 1 (dk_at dksX0_days_1 16 rfl rfl)
theorem dX0_days_43 : decode cX0_days 43 = .ok (.goto (-18), 3) := dk_167 255 238 (dk_at dksX0_days_1 19 rfl rfl)
theorem dX0_days_46 : decode cX0_days 46 = .ok (.iload_n 2, 1) := dk_28 (dk_at dksX0_days_1 22 rfl rfl)
theorem dX0_days_47 : decode cX0_days 47 = .ok (.ireturn, 1) := dk_172 (dk_at dksX0_days_1 23 rfl rfl)
abbrev cX0_chance : ByteArray := prog_1_method_51_code
def yX0_chance : MethodName := ⟨RX0, "chance", "(I)I"⟩
def dkwX0_chance_3 : List UInt8 := [167, 255, 211, 28, 172]
abbrev dktX0_chance_3 : List UInt8 := dkwX0_chance_3 ++ []
def dkwX0_chance_2 : List UInt8 := [180, 0, 83, 182, 1, 80, 132, 2, 1, 167, 0, 11, 42, 180, 0, 83, 182, 1, 46, 87, 132, 3, 1]
abbrev dktX0_chance_2 : List UInt8 := dkwX0_chance_2 ++ dktX0_chance_3
def dkwX0_chance_1 : List UInt8 := [62, 29, 27, 162, 0, 46, 42, 16, 100, 182, 1, 74, 42, 180, 0, 31, 180, 1, 77, 162, 0, 16, 42]
abbrev dktX0_chance_1 : List UInt8 := dkwX0_chance_1 ++ dktX0_chance_2
def dkwX0_chance_0 : List UInt8 := [42, 27, 4, 16, 100, 182, 1, 43, 154, 0, 9, 42, 6, 182, 0, 118, 172, 42, 182, 1, 64, 3, 61, 3]
abbrev dktX0_chance_0 : List UInt8 := dkwX0_chance_0 ++ dktX0_chance_1
theorem dksX0_chance_0 : cX0_chance.data.toList.drop 0 = dktX0_chance_0 := by decide +kernel
theorem dksX0_chance_1 : cX0_chance.data.toList.drop 24 = dktX0_chance_1 := dk_seg dksX0_chance_0 24 rfl rfl
theorem dksX0_chance_2 : cX0_chance.data.toList.drop 47 = dktX0_chance_2 := dk_seg dksX0_chance_1 23 rfl rfl
theorem dksX0_chance_3 : cX0_chance.data.toList.drop 70 = dktX0_chance_3 := dk_seg dksX0_chance_2 23 rfl rfl
theorem dX0_chance_0 : decode cX0_chance 0 = .ok (.aload_n 0, 1) := dk_42 (dk_at dksX0_chance_0 0 rfl rfl)
theorem dX0_chance_1 : decode cX0_chance 1 = .ok (.iload_n 1, 1) := dk_27 (dk_at dksX0_chance_0 1 rfl rfl)
theorem dX0_chance_2 : decode cX0_chance 2 = .ok (.iconst 1, 1) := dk_4 (dk_at dksX0_chance_0 2 rfl rfl)
theorem dX0_chance_3 : decode cX0_chance 3 = .ok (.bipush 100, 2) := dk_16 100 (dk_at dksX0_chance_0 3 rfl rfl)
theorem dX0_chance_5 : decode cX0_chance 5 = .ok (.invokevirtual 299, 3) := dk_182 1 43 (dk_at dksX0_chance_0 5 rfl rfl)
theorem dX0_chance_8 : decode cX0_chance 8 = .ok (.ifCond .ne 9, 3) := dk_154 0 9 (dk_at dksX0_chance_0 8 rfl rfl)
theorem dX0_chance_11 : decode cX0_chance 11 = .ok (.aload_n 0, 1) := dk_42 (dk_at dksX0_chance_0 11 rfl rfl)
theorem dX0_chance_12 : decode cX0_chance 12 = .ok (.iconst 3, 1) := dk_6 (dk_at dksX0_chance_0 12 rfl rfl)
theorem dX0_chance_13 : decode cX0_chance 13 = .ok (.invokevirtual 118, 3) := dk_182 0 118 (dk_at dksX0_chance_0 13 rfl rfl)
theorem dX0_chance_16 : decode cX0_chance 16 = .ok (.ireturn, 1) := dk_172 (dk_at dksX0_chance_0 16 rfl rfl)
theorem dX0_chance_17 : decode cX0_chance 17 = .ok (.aload_n 0, 1) := dk_42 (dk_at dksX0_chance_0 17 rfl rfl)
theorem dX0_chance_18 : decode cX0_chance 18 = .ok (.invokevirtual 320, 3) := dk_182 1 64 (dk_at dksX0_chance_0 18 rfl rfl)
theorem dX0_chance_21 : decode cX0_chance 21 = .ok (.iconst 0, 1) := dk_3 (dk_at dksX0_chance_0 21 rfl rfl)
theorem dX0_chance_22 : decode cX0_chance 22 = .ok (.istore_n 2, 1) := dk_61 (dk_at dksX0_chance_0 22 rfl rfl)
theorem dX0_chance_23 : decode cX0_chance 23 = .ok (.iconst 0, 1) := dk_3 (dk_at dksX0_chance_0 23 rfl rfl)
theorem dX0_chance_24 : decode cX0_chance 24 = .ok (.istore_n 3, 1) := dk_62 (dk_at dksX0_chance_1 0 rfl rfl)
theorem dX0_chance_25 : decode cX0_chance 25 = .ok (.iload_n 3, 1) := dk_29 (dk_at dksX0_chance_1 1 rfl rfl)
theorem dX0_chance_26 : decode cX0_chance 26 = .ok (.iload_n 1, 1) := dk_27 (dk_at dksX0_chance_1 2 rfl rfl)
theorem dX0_chance_27 : decode cX0_chance 27 = .ok (.if_icmp .ge 46, 3) := dk_162 0 46 (dk_at dksX0_chance_1 3 rfl rfl)
theorem dX0_chance_30 : decode cX0_chance 30 = .ok (.aload_n 0, 1) := dk_42 (dk_at dksX0_chance_1 6 rfl rfl)
theorem dX0_chance_31 : decode cX0_chance 31 = .ok (.bipush 100, 2) := dk_16 100 (dk_at dksX0_chance_1 7 rfl rfl)
theorem dX0_chance_33 : decode cX0_chance 33 = .ok (.invokevirtual 330, 3) := dk_182 1 74 (dk_at dksX0_chance_1 9 rfl rfl)
theorem dX0_chance_36 : decode cX0_chance 36 = .ok (.aload_n 0, 1) := dk_42 (dk_at dksX0_chance_1 12 rfl rfl)
theorem dX0_chance_37 : decode cX0_chance 37 = .ok (.getfield 31, 3) := dk_180 0 31 (dk_at dksX0_chance_1 13 rfl rfl)
theorem dX0_chance_40 : decode cX0_chance 40 = .ok (.getfield 333, 3) := dk_180 1 77 (dk_at dksX0_chance_1 16 rfl rfl)
theorem dX0_chance_43 : decode cX0_chance 43 = .ok (.if_icmp .ge 16, 3) := dk_162 0 16 (dk_at dksX0_chance_1 19 rfl rfl)
theorem dX0_chance_46 : decode cX0_chance 46 = .ok (.aload_n 0, 1) := dk_42 (dk_at dksX0_chance_1 22 rfl rfl)
theorem dX0_chance_47 : decode cX0_chance 47 = .ok (.getfield 83, 3) := dk_180 0 83 (dk_at dksX0_chance_2 0 rfl rfl)
theorem dX0_chance_50 : decode cX0_chance 50 = .ok (.invokevirtual 336, 3) := dk_182 1 80 (dk_at dksX0_chance_2 3 rfl rfl)
theorem dX0_chance_53 : decode cX0_chance 53 = .ok (.iinc 2 1, 3) := dk_132 2 1 (dk_at dksX0_chance_2 6 rfl rfl)
theorem dX0_chance_56 : decode cX0_chance 56 = .ok (.goto 11, 3) := dk_167 0 11 (dk_at dksX0_chance_2 9 rfl rfl)
theorem dX0_chance_59 : decode cX0_chance 59 = .ok (.aload_n 0, 1) := dk_42 (dk_at dksX0_chance_2 12 rfl rfl)
theorem dX0_chance_60 : decode cX0_chance 60 = .ok (.getfield 83, 3) := dk_180 0 83 (dk_at dksX0_chance_2 13 rfl rfl)
theorem dX0_chance_63 : decode cX0_chance 63 = .ok (.invokevirtual 302, 3) := dk_182 1 46 (dk_at dksX0_chance_2 16 rfl rfl)
theorem dX0_chance_66 : decode cX0_chance 66 = .ok (.pop, 1) := dk_87 (dk_at dksX0_chance_2 19 rfl rfl)
theorem dX0_chance_67 : decode cX0_chance 67 = .ok (.iinc 3 1, 3) := dk_132 3 1 (dk_at dksX0_chance_2 20 rfl rfl)
theorem dX0_chance_70 : decode cX0_chance 70 = .ok (.goto (-45), 3) := dk_167 255 211 (dk_at dksX0_chance_3 0 rfl rfl)
theorem dX0_chance_73 : decode cX0_chance 73 = .ok (.iload_n 2, 1) := dk_28 (dk_at dksX0_chance_3 3 rfl rfl)
theorem dX0_chance_74 : decode cX0_chance 74 = .ok (.ireturn, 1) := dk_172 (dk_at dksX0_chance_3 4 rfl rfl)
abbrev cX0_draw : ByteArray := prog_1_method_50_code
def yX0_draw : MethodName := ⟨RX0, "draw", "(I)I"⟩
def dkwX0_draw_1 : List UInt8 := [20, 1, 72, 109, 27, 133, 113, 136, 172]
abbrev dktX0_draw_1 : List UInt8 := dkwX0_draw_1 ++ []
def dkwX0_draw_0 : List UInt8 := [42, 20, 1, 66, 42, 180, 0, 108, 105, 20, 1, 68, 97, 20, 1, 70, 113, 181, 0, 108, 42, 180, 0, 108]
abbrev dktX0_draw_0 : List UInt8 := dkwX0_draw_0 ++ dktX0_draw_1
theorem dksX0_draw_0 : cX0_draw.data.toList.drop 0 = dktX0_draw_0 := by decide +kernel
theorem dksX0_draw_1 : cX0_draw.data.toList.drop 24 = dktX0_draw_1 := dk_seg dksX0_draw_0 24 rfl rfl
theorem dX0_draw_0 : decode cX0_draw 0 = .ok (.aload_n 0, 1) := dk_42 (dk_at dksX0_draw_0 0 rfl rfl)
theorem dX0_draw_1 : decode cX0_draw 1 = .ok (.ldc2_w 322, 3) := dk_20 1 66 (dk_at dksX0_draw_0 1 rfl rfl)
theorem dX0_draw_4 : decode cX0_draw 4 = .ok (.aload_n 0, 1) := dk_42 (dk_at dksX0_draw_0 4 rfl rfl)
theorem dX0_draw_5 : decode cX0_draw 5 = .ok (.getfield 108, 3) := dk_180 0 108 (dk_at dksX0_draw_0 5 rfl rfl)
theorem dX0_draw_8 : decode cX0_draw 8 = .ok (.lmul, 1) := dk_105 (dk_at dksX0_draw_0 8 rfl rfl)
theorem dX0_draw_9 : decode cX0_draw 9 = .ok (.ldc2_w 324, 3) := dk_20 1 68 (dk_at dksX0_draw_0 9 rfl rfl)
theorem dX0_draw_12 : decode cX0_draw 12 = .ok (.ladd, 1) := dk_97 (dk_at dksX0_draw_0 12 rfl rfl)
theorem dX0_draw_13 : decode cX0_draw 13 = .ok (.ldc2_w 326, 3) := dk_20 1 70 (dk_at dksX0_draw_0 13 rfl rfl)
theorem dX0_draw_16 : decode cX0_draw 16 = .ok (.lrem, 1) := dk_113 (dk_at dksX0_draw_0 16 rfl rfl)
theorem dX0_draw_17 : decode cX0_draw 17 = .ok (.putfield 108, 3) := dk_181 0 108 (dk_at dksX0_draw_0 17 rfl rfl)
theorem dX0_draw_20 : decode cX0_draw 20 = .ok (.aload_n 0, 1) := dk_42 (dk_at dksX0_draw_0 20 rfl rfl)
theorem dX0_draw_21 : decode cX0_draw 21 = .ok (.getfield 108, 3) := dk_180 0 108 (dk_at dksX0_draw_0 21 rfl rfl)
theorem dX0_draw_24 : decode cX0_draw 24 = .ok (.ldc2_w 328, 3) := dk_20 1 72 (dk_at dksX0_draw_1 0 rfl rfl)
theorem dX0_draw_27 : decode cX0_draw 27 = .ok (.ldiv, 1) := dk_109 (dk_at dksX0_draw_1 3 rfl rfl)
theorem dX0_draw_28 : decode cX0_draw 28 = .ok (.iload_n 1, 1) := dk_27 (dk_at dksX0_draw_1 4 rfl rfl)
theorem dX0_draw_29 : decode cX0_draw 29 = .ok (.i2l, 1) := dk_133 (dk_at dksX0_draw_1 5 rfl rfl)
theorem dX0_draw_30 : decode cX0_draw 30 = .ok (.lrem, 1) := dk_113 (dk_at dksX0_draw_1 6 rfl rfl)
theorem dX0_draw_31 : decode cX0_draw 31 = .ok (.l2i, 1) := dk_136 (dk_at dksX0_draw_1 7 rfl rfl)
theorem dX0_draw_32 : decode cX0_draw 32 = .ok (.ireturn, 1) := dk_172 (dk_at dksX0_draw_1 8 rfl rfl)
abbrev cX0_seed : ByteArray := prog_1_method_52_code
def yX0_seed : MethodName := ⟨RX0, "seed", "(I)Z"⟩
def dkwX0_seed_1 : List UInt8 := [4, 172]
abbrev dktX0_seed_1 : List UInt8 := dkwX0_seed_1 ++ []
def dkwX0_seed_0 : List UInt8 := [27, 156, 0, 17, 42, 8, 182, 0, 118, 155, 0, 7, 4, 167, 0, 4, 3, 172, 42, 27, 133, 181, 0, 108]
abbrev dktX0_seed_0 : List UInt8 := dkwX0_seed_0 ++ dktX0_seed_1
theorem dksX0_seed_0 : cX0_seed.data.toList.drop 0 = dktX0_seed_0 := by decide +kernel
theorem dksX0_seed_1 : cX0_seed.data.toList.drop 24 = dktX0_seed_1 := dk_seg dksX0_seed_0 24 rfl rfl
theorem dX0_seed_0 : decode cX0_seed 0 = .ok (.iload_n 1, 1) := dk_27 (dk_at dksX0_seed_0 0 rfl rfl)
theorem dX0_seed_1 : decode cX0_seed 1 = .ok (.ifCond .ge 17, 3) := dk_156 0 17 (dk_at dksX0_seed_0 1 rfl rfl)
theorem dX0_seed_4 : decode cX0_seed 4 = .ok (.aload_n 0, 1) := dk_42 (dk_at dksX0_seed_0 4 rfl rfl)
theorem dX0_seed_5 : decode cX0_seed 5 = .ok (.iconst 5, 1) := dk_8 (dk_at dksX0_seed_0 5 rfl rfl)
theorem dX0_seed_6 : decode cX0_seed 6 = .ok (.invokevirtual 118, 3) := dk_182 0 118 (dk_at dksX0_seed_0 6 rfl rfl)
theorem dX0_seed_9 : decode cX0_seed 9 = .ok (.ifCond .lt 7, 3) := dk_155 0 7 (dk_at dksX0_seed_0 9 rfl rfl)
theorem dX0_seed_12 : decode cX0_seed 12 = .ok (.iconst 1, 1) := dk_4 (dk_at dksX0_seed_0 12 rfl rfl)
theorem dX0_seed_13 : decode cX0_seed 13 = .ok (.goto 4, 3) := dk_167 0 4 (dk_at dksX0_seed_0 13 rfl rfl)
theorem dX0_seed_16 : decode cX0_seed 16 = .ok (.iconst 0, 1) := dk_3 (dk_at dksX0_seed_0 16 rfl rfl)
theorem dX0_seed_17 : decode cX0_seed 17 = .ok (.ireturn, 1) := dk_172 (dk_at dksX0_seed_0 17 rfl rfl)
theorem dX0_seed_18 : decode cX0_seed 18 = .ok (.aload_n 0, 1) := dk_42 (dk_at dksX0_seed_0 18 rfl rfl)
theorem dX0_seed_19 : decode cX0_seed 19 = .ok (.iload_n 1, 1) := dk_27 (dk_at dksX0_seed_0 19 rfl rfl)
theorem dX0_seed_20 : decode cX0_seed 20 = .ok (.i2l, 1) := dk_133 (dk_at dksX0_seed_0 20 rfl rfl)
theorem dX0_seed_21 : decode cX0_seed 21 = .ok (.putfield 108, 3) := dk_181 0 108 (dk_at dksX0_seed_0 21 rfl rfl)
theorem dX0_seed_24 : decode cX0_seed 24 = .ok (.iconst 1, 1) := dk_4 (dk_at dksX0_seed_1 0 rfl rfl)
theorem dX0_seed_25 : decode cX0_seed 25 = .ok (.ireturn, 1) := dk_172 (dk_at dksX0_seed_1 1 rfl rfl)
abbrev cX0_ask : ByteArray := prog_1_method_54_code
def yX0_ask : MethodName := ⟨RX0, "ask", "()J"⟩
def dkwX0_ask_9 : List UInt8 := [180, 1, 83, 4, 96, 181, 1, 83, 167, 255, 105, 44, 182, 1, 100, 173]
abbrev dktX0_ask_9 : List UInt8 := dkwX0_ask_9 ++ []
def dkwX0_ask_8 : List UInt8 := [180, 1, 83, 182, 0, 229, 133, 80, 44, 42, 180, 1, 83, 42, 180, 0, 59, 182, 1, 94, 42, 89]
abbrev dktX0_ask_8 : List UInt8 := dkwX0_ask_8 ++ dktX0_ask_9
def dkwX0_ask_7 : List UInt8 := [180, 0, 83, 180, 0, 223, 42, 180, 1, 83, 46, 133, 80, 42, 180, 0, 59, 180, 1, 90, 16, 8, 42, 42]
abbrev dktX0_ask_7 : List UInt8 := dkwX0_ask_7 ++ dktX0_ask_8
def dkwX0_ask_6 : List UInt8 := [180, 0, 83, 180, 0, 220, 42, 180, 1, 83, 46, 133, 80, 42, 180, 0, 59, 180, 1, 90, 16, 7, 42]
abbrev dktX0_ask_6 : List UInt8 := dkwX0_ask_6 ++ dktX0_ask_7
def dkwX0_ask_5 : List UInt8 := [180, 0, 59, 180, 1, 90, 8, 42, 180, 1, 83, 133, 80, 42, 180, 0, 59, 180, 1, 90, 16, 6, 42]
abbrev dktX0_ask_5 : List UInt8 := dkwX0_ask_5 ++ dktX0_ask_6
def dkwX0_ask_4 : List UInt8 := [180, 1, 83, 46, 133, 80, 42, 180, 0, 59, 180, 1, 90, 7, 42, 180, 0, 83, 180, 0, 176, 133, 80, 42]
abbrev dktX0_ask_4 : List UInt8 := dkwX0_ask_4 ++ dktX0_ask_5
def dkwX0_ask_3 : List UInt8 := [182, 0, 169, 162, 0, 146, 42, 180, 0, 59, 180, 1, 90, 3, 42, 180, 0, 83, 180, 0, 226, 42]
abbrev dktX0_ask_3 : List UInt8 := dkwX0_ask_3 ++ dktX0_ask_4
def dkwX0_ask_2 : List UInt8 := [42, 45, 180, 0, 142, 181, 0, 39, 20, 1, 2, 173, 42, 3, 181, 1, 83, 42, 180, 1, 83, 42]
abbrev dktX0_ask_2 : List UInt8 := dkwX0_ask_2 ++ dktX0_ask_3
def dkwX0_ask_1 : List UInt8 := [181, 0, 39, 42, 180, 0, 48, 27, 182, 1, 86, 77, 167, 0, 24, 78, 42, 45, 180, 0, 139, 181, 0, 126]
abbrev dktX0_ask_1 : List UInt8 := dkwX0_ask_1 ++ dktX0_ask_2
def dkwX0_ask_0 : List UInt8 := [42, 182, 0, 129, 60, 42, 182, 1, 6, 154, 0, 7, 20, 1, 2, 173, 42, 3, 181, 0, 126, 42, 2]
abbrev dktX0_ask_0 : List UInt8 := dkwX0_ask_0 ++ dktX0_ask_1
theorem dksX0_ask_0 : cX0_ask.data.toList.drop 0 = dktX0_ask_0 := by decide +kernel
theorem dksX0_ask_1 : cX0_ask.data.toList.drop 23 = dktX0_ask_1 := dk_seg dksX0_ask_0 23 rfl rfl
theorem dksX0_ask_2 : cX0_ask.data.toList.drop 47 = dktX0_ask_2 := dk_seg dksX0_ask_1 24 rfl rfl
theorem dksX0_ask_3 : cX0_ask.data.toList.drop 69 = dktX0_ask_3 := dk_seg dksX0_ask_2 22 rfl rfl
theorem dksX0_ask_4 : cX0_ask.data.toList.drop 91 = dktX0_ask_4 := dk_seg dksX0_ask_3 22 rfl rfl
theorem dksX0_ask_5 : cX0_ask.data.toList.drop 115 = dktX0_ask_5 := dk_seg dksX0_ask_4 24 rfl rfl
theorem dksX0_ask_6 : cX0_ask.data.toList.drop 138 = dktX0_ask_6 := dk_seg dksX0_ask_5 23 rfl rfl
theorem dksX0_ask_7 : cX0_ask.data.toList.drop 161 = dktX0_ask_7 := dk_seg dksX0_ask_6 23 rfl rfl
theorem dksX0_ask_8 : cX0_ask.data.toList.drop 185 = dktX0_ask_8 := dk_seg dksX0_ask_7 24 rfl rfl
theorem dksX0_ask_9 : cX0_ask.data.toList.drop 207 = dktX0_ask_9 := dk_seg dksX0_ask_8 22 rfl rfl
theorem dX0_ask_0 : decode cX0_ask 0 = .ok (.aload_n 0, 1) := dk_42 (dk_at dksX0_ask_0 0 rfl rfl)
theorem dX0_ask_1 : decode cX0_ask 1 = .ok (.invokevirtual 129, 3) := dk_182 0 129 (dk_at dksX0_ask_0 1 rfl rfl)
theorem dX0_ask_4 : decode cX0_ask 4 = .ok (.istore_n 1, 1) := dk_60 (dk_at dksX0_ask_0 4 rfl rfl)
theorem dX0_ask_5 : decode cX0_ask 5 = .ok (.aload_n 0, 1) := dk_42 (dk_at dksX0_ask_0 5 rfl rfl)
theorem dX0_ask_6 : decode cX0_ask 6 = .ok (.invokevirtual 262, 3) := dk_182 1 6 (dk_at dksX0_ask_0 6 rfl rfl)
theorem dX0_ask_9 : decode cX0_ask 9 = .ok (.ifCond .ne 7, 3) := dk_154 0 7 (dk_at dksX0_ask_0 9 rfl rfl)
theorem dX0_ask_12 : decode cX0_ask 12 = .ok (.ldc2_w 258, 3) := dk_20 1 2 (dk_at dksX0_ask_0 12 rfl rfl)
theorem dX0_ask_15 : decode cX0_ask 15 = .ok (.lreturn, 1) := dk_173 (dk_at dksX0_ask_0 15 rfl rfl)
theorem dX0_ask_16 : decode cX0_ask 16 = .ok (.aload_n 0, 1) := dk_42 (dk_at dksX0_ask_0 16 rfl rfl)
theorem dX0_ask_17 : decode cX0_ask 17 = .ok (.iconst 0, 1) := dk_3 (dk_at dksX0_ask_0 17 rfl rfl)
theorem dX0_ask_18 : decode cX0_ask 18 = .ok (.putfield 126, 3) := dk_181 0 126 (dk_at dksX0_ask_0 18 rfl rfl)
theorem dX0_ask_21 : decode cX0_ask 21 = .ok (.aload_n 0, 1) := dk_42 (dk_at dksX0_ask_0 21 rfl rfl)
theorem dX0_ask_22 : decode cX0_ask 22 = .ok (.iconst (-1), 1) := dk_2 (dk_at dksX0_ask_0 22 rfl rfl)
theorem dX0_ask_23 : decode cX0_ask 23 = .ok (.putfield 39, 3) := dk_181 0 39 (dk_at dksX0_ask_1 0 rfl rfl)
theorem dX0_ask_26 : decode cX0_ask 26 = .ok (.aload_n 0, 1) := dk_42 (dk_at dksX0_ask_1 3 rfl rfl)
theorem dX0_ask_27 : decode cX0_ask 27 = .ok (.getfield 48, 3) := dk_180 0 48 (dk_at dksX0_ask_1 4 rfl rfl)
theorem dX0_ask_30 : decode cX0_ask 30 = .ok (.iload_n 1, 1) := dk_27 (dk_at dksX0_ask_1 7 rfl rfl)
theorem dX0_ask_31 : decode cX0_ask 31 = .ok (.invokevirtual 342, 3) := dk_182 1 86 (dk_at dksX0_ask_1 8 rfl rfl)
theorem dX0_ask_34 : decode cX0_ask 34 = .ok (.astore_n 2, 1) := dk_77 (dk_at dksX0_ask_1 11 rfl rfl)
theorem dX0_ask_35 : decode cX0_ask 35 = .ok (.goto 24, 3) := dk_167 0 24 (dk_at dksX0_ask_1 12 rfl rfl)
theorem dX0_ask_38 : decode cX0_ask 38 = .ok (.astore_n 3, 1) := dk_78 (dk_at dksX0_ask_1 15 rfl rfl)
theorem dX0_ask_39 : decode cX0_ask 39 = .ok (.aload_n 0, 1) := dk_42 (dk_at dksX0_ask_1 16 rfl rfl)
theorem dX0_ask_40 : decode cX0_ask 40 = .ok (.aload_n 3, 1) := dk_45 (dk_at dksX0_ask_1 17 rfl rfl)
theorem dX0_ask_41 : decode cX0_ask 41 = .ok (.getfield 139, 3) := dk_180 0 139 (dk_at dksX0_ask_1 18 rfl rfl)
theorem dX0_ask_44 : decode cX0_ask 44 = .ok (.putfield 126, 3) := dk_181 0 126 (dk_at dksX0_ask_1 21 rfl rfl)
theorem dX0_ask_47 : decode cX0_ask 47 = .ok (.aload_n 0, 1) := dk_42 (dk_at dksX0_ask_2 0 rfl rfl)
theorem dX0_ask_48 : decode cX0_ask 48 = .ok (.aload_n 3, 1) := dk_45 (dk_at dksX0_ask_2 1 rfl rfl)
theorem dX0_ask_49 : decode cX0_ask 49 = .ok (.getfield 142, 3) := dk_180 0 142 (dk_at dksX0_ask_2 2 rfl rfl)
theorem dX0_ask_52 : decode cX0_ask 52 = .ok (.putfield 39, 3) := dk_181 0 39 (dk_at dksX0_ask_2 5 rfl rfl)
theorem dX0_ask_55 : decode cX0_ask 55 = .ok (.ldc2_w 258, 3) := dk_20 1 2 (dk_at dksX0_ask_2 8 rfl rfl)
theorem dX0_ask_58 : decode cX0_ask 58 = .ok (.lreturn, 1) := dk_173 (dk_at dksX0_ask_2 11 rfl rfl)
theorem dX0_ask_59 : decode cX0_ask 59 = .ok (.aload_n 0, 1) := dk_42 (dk_at dksX0_ask_2 12 rfl rfl)
theorem dX0_ask_60 : decode cX0_ask 60 = .ok (.iconst 0, 1) := dk_3 (dk_at dksX0_ask_2 13 rfl rfl)
theorem dX0_ask_61 : decode cX0_ask 61 = .ok (.putfield 339, 3) := dk_181 1 83 (dk_at dksX0_ask_2 14 rfl rfl)
theorem dX0_ask_64 : decode cX0_ask 64 = .ok (.aload_n 0, 1) := dk_42 (dk_at dksX0_ask_2 17 rfl rfl)
theorem dX0_ask_65 : decode cX0_ask 65 = .ok (.getfield 339, 3) := dk_180 1 83 (dk_at dksX0_ask_2 18 rfl rfl)
theorem dX0_ask_68 : decode cX0_ask 68 = .ok (.aload_n 0, 1) := dk_42 (dk_at dksX0_ask_2 21 rfl rfl)
theorem dX0_ask_69 : decode cX0_ask 69 = .ok (.invokevirtual 169, 3) := dk_182 0 169 (dk_at dksX0_ask_3 0 rfl rfl)
theorem dX0_ask_72 : decode cX0_ask 72 = .ok (.if_icmp .ge 146, 3) := dk_162 0 146 (dk_at dksX0_ask_3 3 rfl rfl)
theorem dX0_ask_75 : decode cX0_ask 75 = .ok (.aload_n 0, 1) := dk_42 (dk_at dksX0_ask_3 6 rfl rfl)
theorem dX0_ask_76 : decode cX0_ask 76 = .ok (.getfield 59, 3) := dk_180 0 59 (dk_at dksX0_ask_3 7 rfl rfl)
theorem dX0_ask_79 : decode cX0_ask 79 = .ok (.getfield 346, 3) := dk_180 1 90 (dk_at dksX0_ask_3 10 rfl rfl)
theorem dX0_ask_82 : decode cX0_ask 82 = .ok (.iconst 0, 1) := dk_3 (dk_at dksX0_ask_3 13 rfl rfl)
theorem dX0_ask_83 : decode cX0_ask 83 = .ok (.aload_n 0, 1) := dk_42 (dk_at dksX0_ask_3 14 rfl rfl)
theorem dX0_ask_84 : decode cX0_ask 84 = .ok (.getfield 83, 3) := dk_180 0 83 (dk_at dksX0_ask_3 15 rfl rfl)
theorem dX0_ask_87 : decode cX0_ask 87 = .ok (.getfield 226, 3) := dk_180 0 226 (dk_at dksX0_ask_3 18 rfl rfl)
theorem dX0_ask_90 : decode cX0_ask 90 = .ok (.aload_n 0, 1) := dk_42 (dk_at dksX0_ask_3 21 rfl rfl)
theorem dX0_ask_91 : decode cX0_ask 91 = .ok (.getfield 339, 3) := dk_180 1 83 (dk_at dksX0_ask_4 0 rfl rfl)
theorem dX0_ask_94 : decode cX0_ask 94 = .ok (.iaload, 1) := dk_46 (dk_at dksX0_ask_4 3 rfl rfl)
theorem dX0_ask_95 : decode cX0_ask 95 = .ok (.i2l, 1) := dk_133 (dk_at dksX0_ask_4 4 rfl rfl)
theorem dX0_ask_96 : decode cX0_ask 96 = .ok (.lastore, 1) := dk_80 (dk_at dksX0_ask_4 5 rfl rfl)
theorem dX0_ask_97 : decode cX0_ask 97 = .ok (.aload_n 0, 1) := dk_42 (dk_at dksX0_ask_4 6 rfl rfl)
theorem dX0_ask_98 : decode cX0_ask 98 = .ok (.getfield 59, 3) := dk_180 0 59 (dk_at dksX0_ask_4 7 rfl rfl)
theorem dX0_ask_101 : decode cX0_ask 101 = .ok (.getfield 346, 3) := dk_180 1 90 (dk_at dksX0_ask_4 10 rfl rfl)
theorem dX0_ask_104 : decode cX0_ask 104 = .ok (.iconst 4, 1) := dk_7 (dk_at dksX0_ask_4 13 rfl rfl)
theorem dX0_ask_105 : decode cX0_ask 105 = .ok (.aload_n 0, 1) := dk_42 (dk_at dksX0_ask_4 14 rfl rfl)
theorem dX0_ask_106 : decode cX0_ask 106 = .ok (.getfield 83, 3) := dk_180 0 83 (dk_at dksX0_ask_4 15 rfl rfl)
theorem dX0_ask_109 : decode cX0_ask 109 = .ok (.getfield 176, 3) := dk_180 0 176 (dk_at dksX0_ask_4 18 rfl rfl)
theorem dX0_ask_112 : decode cX0_ask 112 = .ok (.i2l, 1) := dk_133 (dk_at dksX0_ask_4 21 rfl rfl)
theorem dX0_ask_113 : decode cX0_ask 113 = .ok (.lastore, 1) := dk_80 (dk_at dksX0_ask_4 22 rfl rfl)
theorem dX0_ask_114 : decode cX0_ask 114 = .ok (.aload_n 0, 1) := dk_42 (dk_at dksX0_ask_4 23 rfl rfl)
theorem dX0_ask_115 : decode cX0_ask 115 = .ok (.getfield 59, 3) := dk_180 0 59 (dk_at dksX0_ask_5 0 rfl rfl)
theorem dX0_ask_118 : decode cX0_ask 118 = .ok (.getfield 346, 3) := dk_180 1 90 (dk_at dksX0_ask_5 3 rfl rfl)
theorem dX0_ask_121 : decode cX0_ask 121 = .ok (.iconst 5, 1) := dk_8 (dk_at dksX0_ask_5 6 rfl rfl)
theorem dX0_ask_122 : decode cX0_ask 122 = .ok (.aload_n 0, 1) := dk_42 (dk_at dksX0_ask_5 7 rfl rfl)
theorem dX0_ask_123 : decode cX0_ask 123 = .ok (.getfield 339, 3) := dk_180 1 83 (dk_at dksX0_ask_5 8 rfl rfl)
theorem dX0_ask_126 : decode cX0_ask 126 = .ok (.i2l, 1) := dk_133 (dk_at dksX0_ask_5 11 rfl rfl)
theorem dX0_ask_127 : decode cX0_ask 127 = .ok (.lastore, 1) := dk_80 (dk_at dksX0_ask_5 12 rfl rfl)
theorem dX0_ask_128 : decode cX0_ask 128 = .ok (.aload_n 0, 1) := dk_42 (dk_at dksX0_ask_5 13 rfl rfl)
theorem dX0_ask_129 : decode cX0_ask 129 = .ok (.getfield 59, 3) := dk_180 0 59 (dk_at dksX0_ask_5 14 rfl rfl)
theorem dX0_ask_132 : decode cX0_ask 132 = .ok (.getfield 346, 3) := dk_180 1 90 (dk_at dksX0_ask_5 17 rfl rfl)
theorem dX0_ask_135 : decode cX0_ask 135 = .ok (.bipush 6, 2) := dk_16 6 (dk_at dksX0_ask_5 20 rfl rfl)
theorem dX0_ask_137 : decode cX0_ask 137 = .ok (.aload_n 0, 1) := dk_42 (dk_at dksX0_ask_5 22 rfl rfl)
theorem dX0_ask_138 : decode cX0_ask 138 = .ok (.getfield 83, 3) := dk_180 0 83 (dk_at dksX0_ask_6 0 rfl rfl)
theorem dX0_ask_141 : decode cX0_ask 141 = .ok (.getfield 220, 3) := dk_180 0 220 (dk_at dksX0_ask_6 3 rfl rfl)
theorem dX0_ask_144 : decode cX0_ask 144 = .ok (.aload_n 0, 1) := dk_42 (dk_at dksX0_ask_6 6 rfl rfl)
theorem dX0_ask_145 : decode cX0_ask 145 = .ok (.getfield 339, 3) := dk_180 1 83 (dk_at dksX0_ask_6 7 rfl rfl)
theorem dX0_ask_148 : decode cX0_ask 148 = .ok (.iaload, 1) := dk_46 (dk_at dksX0_ask_6 10 rfl rfl)
theorem dX0_ask_149 : decode cX0_ask 149 = .ok (.i2l, 1) := dk_133 (dk_at dksX0_ask_6 11 rfl rfl)
theorem dX0_ask_150 : decode cX0_ask 150 = .ok (.lastore, 1) := dk_80 (dk_at dksX0_ask_6 12 rfl rfl)
theorem dX0_ask_151 : decode cX0_ask 151 = .ok (.aload_n 0, 1) := dk_42 (dk_at dksX0_ask_6 13 rfl rfl)
theorem dX0_ask_152 : decode cX0_ask 152 = .ok (.getfield 59, 3) := dk_180 0 59 (dk_at dksX0_ask_6 14 rfl rfl)
theorem dX0_ask_155 : decode cX0_ask 155 = .ok (.getfield 346, 3) := dk_180 1 90 (dk_at dksX0_ask_6 17 rfl rfl)
theorem dX0_ask_158 : decode cX0_ask 158 = .ok (.bipush 7, 2) := dk_16 7 (dk_at dksX0_ask_6 20 rfl rfl)
theorem dX0_ask_160 : decode cX0_ask 160 = .ok (.aload_n 0, 1) := dk_42 (dk_at dksX0_ask_6 22 rfl rfl)
theorem dX0_ask_161 : decode cX0_ask 161 = .ok (.getfield 83, 3) := dk_180 0 83 (dk_at dksX0_ask_7 0 rfl rfl)
theorem dX0_ask_164 : decode cX0_ask 164 = .ok (.getfield 223, 3) := dk_180 0 223 (dk_at dksX0_ask_7 3 rfl rfl)
theorem dX0_ask_167 : decode cX0_ask 167 = .ok (.aload_n 0, 1) := dk_42 (dk_at dksX0_ask_7 6 rfl rfl)
theorem dX0_ask_168 : decode cX0_ask 168 = .ok (.getfield 339, 3) := dk_180 1 83 (dk_at dksX0_ask_7 7 rfl rfl)
theorem dX0_ask_171 : decode cX0_ask 171 = .ok (.iaload, 1) := dk_46 (dk_at dksX0_ask_7 10 rfl rfl)
theorem dX0_ask_172 : decode cX0_ask 172 = .ok (.i2l, 1) := dk_133 (dk_at dksX0_ask_7 11 rfl rfl)
theorem dX0_ask_173 : decode cX0_ask 173 = .ok (.lastore, 1) := dk_80 (dk_at dksX0_ask_7 12 rfl rfl)
theorem dX0_ask_174 : decode cX0_ask 174 = .ok (.aload_n 0, 1) := dk_42 (dk_at dksX0_ask_7 13 rfl rfl)
theorem dX0_ask_175 : decode cX0_ask 175 = .ok (.getfield 59, 3) := dk_180 0 59 (dk_at dksX0_ask_7 14 rfl rfl)
theorem dX0_ask_178 : decode cX0_ask 178 = .ok (.getfield 346, 3) := dk_180 1 90 (dk_at dksX0_ask_7 17 rfl rfl)
theorem dX0_ask_181 : decode cX0_ask 181 = .ok (.bipush 8, 2) := dk_16 8 (dk_at dksX0_ask_7 20 rfl rfl)
theorem dX0_ask_183 : decode cX0_ask 183 = .ok (.aload_n 0, 1) := dk_42 (dk_at dksX0_ask_7 22 rfl rfl)
theorem dX0_ask_184 : decode cX0_ask 184 = .ok (.aload_n 0, 1) := dk_42 (dk_at dksX0_ask_7 23 rfl rfl)
theorem dX0_ask_185 : decode cX0_ask 185 = .ok (.getfield 339, 3) := dk_180 1 83 (dk_at dksX0_ask_8 0 rfl rfl)
theorem dX0_ask_188 : decode cX0_ask 188 = .ok (.invokevirtual 229, 3) := dk_182 0 229 (dk_at dksX0_ask_8 3 rfl rfl)
theorem dX0_ask_191 : decode cX0_ask 191 = .ok (.i2l, 1) := dk_133 (dk_at dksX0_ask_8 6 rfl rfl)
theorem dX0_ask_192 : decode cX0_ask 192 = .ok (.lastore, 1) := dk_80 (dk_at dksX0_ask_8 7 rfl rfl)
theorem dX0_ask_193 : decode cX0_ask 193 = .ok (.aload_n 2, 1) := dk_44 (dk_at dksX0_ask_8 8 rfl rfl)
theorem dX0_ask_194 : decode cX0_ask 194 = .ok (.aload_n 0, 1) := dk_42 (dk_at dksX0_ask_8 9 rfl rfl)
theorem dX0_ask_195 : decode cX0_ask 195 = .ok (.getfield 339, 3) := dk_180 1 83 (dk_at dksX0_ask_8 10 rfl rfl)
theorem dX0_ask_198 : decode cX0_ask 198 = .ok (.aload_n 0, 1) := dk_42 (dk_at dksX0_ask_8 13 rfl rfl)
theorem dX0_ask_199 : decode cX0_ask 199 = .ok (.getfield 59, 3) := dk_180 0 59 (dk_at dksX0_ask_8 14 rfl rfl)
theorem dX0_ask_202 : decode cX0_ask 202 = .ok (.invokevirtual 350, 3) := dk_182 1 94 (dk_at dksX0_ask_8 17 rfl rfl)
theorem dX0_ask_205 : decode cX0_ask 205 = .ok (.aload_n 0, 1) := dk_42 (dk_at dksX0_ask_8 20 rfl rfl)
theorem dX0_ask_206 : decode cX0_ask 206 = .ok (.dup, 1) := dk_89 (dk_at dksX0_ask_8 21 rfl rfl)
theorem dX0_ask_207 : decode cX0_ask 207 = .ok (.getfield 339, 3) := dk_180 1 83 (dk_at dksX0_ask_9 0 rfl rfl)
theorem dX0_ask_210 : decode cX0_ask 210 = .ok (.iconst 1, 1) := dk_4 (dk_at dksX0_ask_9 3 rfl rfl)
theorem dX0_ask_211 : decode cX0_ask 211 = .ok (.iadd, 1) := dk_96 (dk_at dksX0_ask_9 4 rfl rfl)
theorem dX0_ask_212 : decode cX0_ask 212 = .ok (.putfield 339, 3) := dk_181 1 83 (dk_at dksX0_ask_9 5 rfl rfl)
theorem dX0_ask_215 : decode cX0_ask 215 = .ok (.goto (-151), 3) := dk_167 255 105 (dk_at dksX0_ask_9 8 rfl rfl)
theorem dX0_ask_218 : decode cX0_ask 218 = .ok (.aload_n 2, 1) := dk_44 (dk_at dksX0_ask_9 11 rfl rfl)
theorem dX0_ask_219 : decode cX0_ask 219 = .ok (.invokevirtual 356, 3) := dk_182 1 100 (dk_at dksX0_ask_9 12 rfl rfl)
theorem dX0_ask_222 : decode cX0_ask 222 = .ok (.lreturn, 1) := dk_173 (dk_at dksX0_ask_9 15 rfl rfl)
abbrev cX0_image : ByteArray := prog_1_method_57_code
def yX0_image : MethodName := ⟨RX0, "image", "()I"⟩
def dkwX0_image_7 : List UInt8 := [184, 1, 110, 182, 1, 107, 42, 180, 1, 104, 172]
abbrev dktX0_image_7 : List UInt8 := dkwX0_image_7 ++ []
def dkwX0_image_6 : List UInt8 := [182, 1, 107, 132, 2, 1, 167, 255, 230, 132, 1, 1, 167, 255, 175, 42, 42, 180, 0, 112, 42, 180, 1, 104]
abbrev dktX0_image_6 : List UInt8 := dkwX0_image_6 ++ dktX0_image_7
def dkwX0_image_5 : List UInt8 := [3, 61, 28, 42, 182, 0, 171, 162, 0, 24, 42, 42, 180, 0, 83, 180, 0, 187, 27, 50, 28, 46]
abbrev dktX0_image_5 : List UInt8 := dkwX0_image_5 ++ dktX0_image_6
def dkwX0_image_4 : List UInt8 := [180, 0, 83, 180, 0, 223, 27, 46, 182, 1, 107, 42, 42, 180, 0, 83, 180, 0, 226, 27, 46, 182, 1, 107]
abbrev dktX0_image_4 : List UInt8 := dkwX0_image_4 ++ dktX0_image_5
def dkwX0_image_3 : List UInt8 := [42, 182, 0, 169, 162, 0, 79, 42, 42, 180, 0, 83, 180, 0, 220, 27, 46, 182, 1, 107, 42, 42]
abbrev dktX0_image_3 : List UInt8 := dkwX0_image_3 ++ dktX0_image_4
def dkwX0_image_2 : List UInt8 := [27, 184, 0, 238, 153, 0, 7, 4, 167, 0, 4, 3, 182, 1, 107, 132, 1, 1, 167, 255, 222, 3, 60, 27]
abbrev dktX0_image_2 : List UInt8 := dkwX0_image_2 ++ dktX0_image_3
def dkwX0_image_1 : List UInt8 := [180, 0, 176, 182, 1, 107, 3, 60, 27, 42, 182, 0, 171, 162, 0, 32, 42, 42, 180, 0, 83, 180, 0, 179]
abbrev dktX0_image_1 : List UInt8 := dkwX0_image_1 ++ dktX0_image_2
def dkwX0_image_0 : List UInt8 := [42, 3, 181, 1, 104, 42, 42, 180, 0, 83, 180, 0, 176, 16, 8, 122, 182, 1, 107, 42, 42, 180, 0, 83]
abbrev dktX0_image_0 : List UInt8 := dkwX0_image_0 ++ dktX0_image_1
theorem dksX0_image_0 : cX0_image.data.toList.drop 0 = dktX0_image_0 := by decide +kernel
theorem dksX0_image_1 : cX0_image.data.toList.drop 24 = dktX0_image_1 := dk_seg dksX0_image_0 24 rfl rfl
theorem dksX0_image_2 : cX0_image.data.toList.drop 48 = dktX0_image_2 := dk_seg dksX0_image_1 24 rfl rfl
theorem dksX0_image_3 : cX0_image.data.toList.drop 72 = dktX0_image_3 := dk_seg dksX0_image_2 24 rfl rfl
theorem dksX0_image_4 : cX0_image.data.toList.drop 94 = dktX0_image_4 := dk_seg dksX0_image_3 22 rfl rfl
theorem dksX0_image_5 : cX0_image.data.toList.drop 118 = dktX0_image_5 := dk_seg dksX0_image_4 24 rfl rfl
theorem dksX0_image_6 : cX0_image.data.toList.drop 140 = dktX0_image_6 := dk_seg dksX0_image_5 22 rfl rfl
theorem dksX0_image_7 : cX0_image.data.toList.drop 164 = dktX0_image_7 := dk_seg dksX0_image_6 24 rfl rfl
theorem dX0_image_0 : decode cX0_image 0 = .ok (.aload_n 0, 1) := dk_42 (dk_at dksX0_image_0 0 rfl rfl)
theorem dX0_image_1 : decode cX0_image 1 = .ok (.iconst 0, 1) := dk_3 (dk_at dksX0_image_0 1 rfl rfl)
theorem dX0_image_2 : decode cX0_image 2 = .ok (.putfield 360, 3) := dk_181 1 104 (dk_at dksX0_image_0 2 rfl rfl)
theorem dX0_image_5 : decode cX0_image 5 = .ok (.aload_n 0, 1) := dk_42 (dk_at dksX0_image_0 5 rfl rfl)
theorem dX0_image_6 : decode cX0_image 6 = .ok (.aload_n 0, 1) := dk_42 (dk_at dksX0_image_0 6 rfl rfl)
theorem dX0_image_7 : decode cX0_image 7 = .ok (.getfield 83, 3) := dk_180 0 83 (dk_at dksX0_image_0 7 rfl rfl)
theorem dX0_image_10 : decode cX0_image 10 = .ok (.getfield 176, 3) := dk_180 0 176 (dk_at dksX0_image_0 10 rfl rfl)
theorem dX0_image_13 : decode cX0_image 13 = .ok (.bipush 8, 2) := dk_16 8 (dk_at dksX0_image_0 13 rfl rfl)
theorem dX0_image_15 : decode cX0_image 15 = .ok (.ishr, 1) := dk_122 (dk_at dksX0_image_0 15 rfl rfl)
theorem dX0_image_16 : decode cX0_image 16 = .ok (.invokevirtual 363, 3) := dk_182 1 107 (dk_at dksX0_image_0 16 rfl rfl)
theorem dX0_image_19 : decode cX0_image 19 = .ok (.aload_n 0, 1) := dk_42 (dk_at dksX0_image_0 19 rfl rfl)
theorem dX0_image_20 : decode cX0_image 20 = .ok (.aload_n 0, 1) := dk_42 (dk_at dksX0_image_0 20 rfl rfl)
theorem dX0_image_21 : decode cX0_image 21 = .ok (.getfield 83, 3) := dk_180 0 83 (dk_at dksX0_image_0 21 rfl rfl)
theorem dX0_image_24 : decode cX0_image 24 = .ok (.getfield 176, 3) := dk_180 0 176 (dk_at dksX0_image_1 0 rfl rfl)
theorem dX0_image_27 : decode cX0_image 27 = .ok (.invokevirtual 363, 3) := dk_182 1 107 (dk_at dksX0_image_1 3 rfl rfl)
theorem dX0_image_30 : decode cX0_image 30 = .ok (.iconst 0, 1) := dk_3 (dk_at dksX0_image_1 6 rfl rfl)
theorem dX0_image_31 : decode cX0_image 31 = .ok (.istore_n 1, 1) := dk_60 (dk_at dksX0_image_1 7 rfl rfl)
theorem dX0_image_32 : decode cX0_image 32 = .ok (.iload_n 1, 1) := dk_27 (dk_at dksX0_image_1 8 rfl rfl)
theorem dX0_image_33 : decode cX0_image 33 = .ok (.aload_n 0, 1) := dk_42 (dk_at dksX0_image_1 9 rfl rfl)
theorem dX0_image_34 : decode cX0_image 34 = .ok (.invokevirtual 171, 3) := dk_182 0 171 (dk_at dksX0_image_1 10 rfl rfl)
theorem dX0_image_37 : decode cX0_image 37 = .ok (.if_icmp .ge 32, 3) := dk_162 0 32 (dk_at dksX0_image_1 13 rfl rfl)
theorem dX0_image_40 : decode cX0_image 40 = .ok (.aload_n 0, 1) := dk_42 (dk_at dksX0_image_1 16 rfl rfl)
theorem dX0_image_41 : decode cX0_image 41 = .ok (.aload_n 0, 1) := dk_42 (dk_at dksX0_image_1 17 rfl rfl)
theorem dX0_image_42 : decode cX0_image 42 = .ok (.getfield 83, 3) := dk_180 0 83 (dk_at dksX0_image_1 18 rfl rfl)
theorem dX0_image_45 : decode cX0_image 45 = .ok (.getfield 179, 3) := dk_180 0 179 (dk_at dksX0_image_1 21 rfl rfl)
theorem dX0_image_48 : decode cX0_image 48 = .ok (.iload_n 1, 1) := dk_27 (dk_at dksX0_image_2 0 rfl rfl)
theorem dX0_image_49 : decode cX0_image 49 = .ok (.invokestatic 238, 3) := dk_184 0 238 (dk_at dksX0_image_2 1 rfl rfl)
theorem dX0_image_52 : decode cX0_image 52 = .ok (.ifCond .eq 7, 3) := dk_153 0 7 (dk_at dksX0_image_2 4 rfl rfl)
theorem dX0_image_55 : decode cX0_image 55 = .ok (.iconst 1, 1) := dk_4 (dk_at dksX0_image_2 7 rfl rfl)
theorem dX0_image_56 : decode cX0_image 56 = .ok (.goto 4, 3) := dk_167 0 4 (dk_at dksX0_image_2 8 rfl rfl)
theorem dX0_image_59 : decode cX0_image 59 = .ok (.iconst 0, 1) := dk_3 (dk_at dksX0_image_2 11 rfl rfl)
theorem dX0_image_60 : decode cX0_image 60 = .ok (.invokevirtual 363, 3) := dk_182 1 107 (dk_at dksX0_image_2 12 rfl rfl)
theorem dX0_image_63 : decode cX0_image 63 = .ok (.iinc 1 1, 3) := dk_132 1 1 (dk_at dksX0_image_2 15 rfl rfl)
theorem dX0_image_66 : decode cX0_image 66 = .ok (.goto (-34), 3) := dk_167 255 222 (dk_at dksX0_image_2 18 rfl rfl)
theorem dX0_image_69 : decode cX0_image 69 = .ok (.iconst 0, 1) := dk_3 (dk_at dksX0_image_2 21 rfl rfl)
theorem dX0_image_70 : decode cX0_image 70 = .ok (.istore_n 1, 1) := dk_60 (dk_at dksX0_image_2 22 rfl rfl)
theorem dX0_image_71 : decode cX0_image 71 = .ok (.iload_n 1, 1) := dk_27 (dk_at dksX0_image_2 23 rfl rfl)
theorem dX0_image_72 : decode cX0_image 72 = .ok (.aload_n 0, 1) := dk_42 (dk_at dksX0_image_3 0 rfl rfl)
theorem dX0_image_73 : decode cX0_image 73 = .ok (.invokevirtual 169, 3) := dk_182 0 169 (dk_at dksX0_image_3 1 rfl rfl)
theorem dX0_image_76 : decode cX0_image 76 = .ok (.if_icmp .ge 79, 3) := dk_162 0 79 (dk_at dksX0_image_3 4 rfl rfl)
theorem dX0_image_79 : decode cX0_image 79 = .ok (.aload_n 0, 1) := dk_42 (dk_at dksX0_image_3 7 rfl rfl)
theorem dX0_image_80 : decode cX0_image 80 = .ok (.aload_n 0, 1) := dk_42 (dk_at dksX0_image_3 8 rfl rfl)
theorem dX0_image_81 : decode cX0_image 81 = .ok (.getfield 83, 3) := dk_180 0 83 (dk_at dksX0_image_3 9 rfl rfl)
theorem dX0_image_84 : decode cX0_image 84 = .ok (.getfield 220, 3) := dk_180 0 220 (dk_at dksX0_image_3 12 rfl rfl)
theorem dX0_image_87 : decode cX0_image 87 = .ok (.iload_n 1, 1) := dk_27 (dk_at dksX0_image_3 15 rfl rfl)
theorem dX0_image_88 : decode cX0_image 88 = .ok (.iaload, 1) := dk_46 (dk_at dksX0_image_3 16 rfl rfl)
theorem dX0_image_89 : decode cX0_image 89 = .ok (.invokevirtual 363, 3) := dk_182 1 107 (dk_at dksX0_image_3 17 rfl rfl)
theorem dX0_image_92 : decode cX0_image 92 = .ok (.aload_n 0, 1) := dk_42 (dk_at dksX0_image_3 20 rfl rfl)
theorem dX0_image_93 : decode cX0_image 93 = .ok (.aload_n 0, 1) := dk_42 (dk_at dksX0_image_3 21 rfl rfl)
theorem dX0_image_94 : decode cX0_image 94 = .ok (.getfield 83, 3) := dk_180 0 83 (dk_at dksX0_image_4 0 rfl rfl)
theorem dX0_image_97 : decode cX0_image 97 = .ok (.getfield 223, 3) := dk_180 0 223 (dk_at dksX0_image_4 3 rfl rfl)
theorem dX0_image_100 : decode cX0_image 100 = .ok (.iload_n 1, 1) := dk_27 (dk_at dksX0_image_4 6 rfl rfl)
theorem dX0_image_101 : decode cX0_image 101 = .ok (.iaload, 1) := dk_46 (dk_at dksX0_image_4 7 rfl rfl)
theorem dX0_image_102 : decode cX0_image 102 = .ok (.invokevirtual 363, 3) := dk_182 1 107 (dk_at dksX0_image_4 8 rfl rfl)
theorem dX0_image_105 : decode cX0_image 105 = .ok (.aload_n 0, 1) := dk_42 (dk_at dksX0_image_4 11 rfl rfl)
theorem dX0_image_106 : decode cX0_image 106 = .ok (.aload_n 0, 1) := dk_42 (dk_at dksX0_image_4 12 rfl rfl)
theorem dX0_image_107 : decode cX0_image 107 = .ok (.getfield 83, 3) := dk_180 0 83 (dk_at dksX0_image_4 13 rfl rfl)
theorem dX0_image_110 : decode cX0_image 110 = .ok (.getfield 226, 3) := dk_180 0 226 (dk_at dksX0_image_4 16 rfl rfl)
theorem dX0_image_113 : decode cX0_image 113 = .ok (.iload_n 1, 1) := dk_27 (dk_at dksX0_image_4 19 rfl rfl)
theorem dX0_image_114 : decode cX0_image 114 = .ok (.iaload, 1) := dk_46 (dk_at dksX0_image_4 20 rfl rfl)
theorem dX0_image_115 : decode cX0_image 115 = .ok (.invokevirtual 363, 3) := dk_182 1 107 (dk_at dksX0_image_4 21 rfl rfl)
theorem dX0_image_118 : decode cX0_image 118 = .ok (.iconst 0, 1) := dk_3 (dk_at dksX0_image_5 0 rfl rfl)
theorem dX0_image_119 : decode cX0_image 119 = .ok (.istore_n 2, 1) := dk_61 (dk_at dksX0_image_5 1 rfl rfl)
theorem dX0_image_120 : decode cX0_image 120 = .ok (.iload_n 2, 1) := dk_28 (dk_at dksX0_image_5 2 rfl rfl)
theorem dX0_image_121 : decode cX0_image 121 = .ok (.aload_n 0, 1) := dk_42 (dk_at dksX0_image_5 3 rfl rfl)
theorem dX0_image_122 : decode cX0_image 122 = .ok (.invokevirtual 171, 3) := dk_182 0 171 (dk_at dksX0_image_5 4 rfl rfl)
theorem dX0_image_125 : decode cX0_image 125 = .ok (.if_icmp .ge 24, 3) := dk_162 0 24 (dk_at dksX0_image_5 7 rfl rfl)
theorem dX0_image_128 : decode cX0_image 128 = .ok (.aload_n 0, 1) := dk_42 (dk_at dksX0_image_5 10 rfl rfl)
theorem dX0_image_129 : decode cX0_image 129 = .ok (.aload_n 0, 1) := dk_42 (dk_at dksX0_image_5 11 rfl rfl)
theorem dX0_image_130 : decode cX0_image 130 = .ok (.getfield 83, 3) := dk_180 0 83 (dk_at dksX0_image_5 12 rfl rfl)
theorem dX0_image_133 : decode cX0_image 133 = .ok (.getfield 187, 3) := dk_180 0 187 (dk_at dksX0_image_5 15 rfl rfl)
theorem dX0_image_136 : decode cX0_image 136 = .ok (.iload_n 1, 1) := dk_27 (dk_at dksX0_image_5 18 rfl rfl)
theorem dX0_image_137 : decode cX0_image 137 = .ok (.aaload, 1) := dk_50 (dk_at dksX0_image_5 19 rfl rfl)
theorem dX0_image_138 : decode cX0_image 138 = .ok (.iload_n 2, 1) := dk_28 (dk_at dksX0_image_5 20 rfl rfl)
theorem dX0_image_139 : decode cX0_image 139 = .ok (.iaload, 1) := dk_46 (dk_at dksX0_image_5 21 rfl rfl)
theorem dX0_image_140 : decode cX0_image 140 = .ok (.invokevirtual 363, 3) := dk_182 1 107 (dk_at dksX0_image_6 0 rfl rfl)
theorem dX0_image_143 : decode cX0_image 143 = .ok (.iinc 2 1, 3) := dk_132 2 1 (dk_at dksX0_image_6 3 rfl rfl)
theorem dX0_image_146 : decode cX0_image 146 = .ok (.goto (-26), 3) := dk_167 255 230 (dk_at dksX0_image_6 6 rfl rfl)
theorem dX0_image_149 : decode cX0_image 149 = .ok (.iinc 1 1, 3) := dk_132 1 1 (dk_at dksX0_image_6 9 rfl rfl)
theorem dX0_image_152 : decode cX0_image 152 = .ok (.goto (-81), 3) := dk_167 255 175 (dk_at dksX0_image_6 12 rfl rfl)
theorem dX0_image_155 : decode cX0_image 155 = .ok (.aload_n 0, 1) := dk_42 (dk_at dksX0_image_6 15 rfl rfl)
theorem dX0_image_156 : decode cX0_image 156 = .ok (.aload_n 0, 1) := dk_42 (dk_at dksX0_image_6 16 rfl rfl)
theorem dX0_image_157 : decode cX0_image 157 = .ok (.getfield 112, 3) := dk_180 0 112 (dk_at dksX0_image_6 17 rfl rfl)
theorem dX0_image_160 : decode cX0_image 160 = .ok (.aload_n 0, 1) := dk_42 (dk_at dksX0_image_6 20 rfl rfl)
theorem dX0_image_161 : decode cX0_image 161 = .ok (.getfield 360, 3) := dk_180 1 104 (dk_at dksX0_image_6 21 rfl rfl)
theorem dX0_image_164 : decode cX0_image 164 = .ok (.invokestatic 366, 3) := dk_184 1 110 (dk_at dksX0_image_7 0 rfl rfl)
theorem dX0_image_167 : decode cX0_image 167 = .ok (.invokevirtual 363, 3) := dk_182 1 107 (dk_at dksX0_image_7 3 rfl rfl)
theorem dX0_image_170 : decode cX0_image 170 = .ok (.aload_n 0, 1) := dk_42 (dk_at dksX0_image_7 6 rfl rfl)
theorem dX0_image_171 : decode cX0_image 171 = .ok (.getfield 360, 3) := dk_180 1 104 (dk_at dksX0_image_7 7 rfl rfl)
theorem dX0_image_174 : decode cX0_image 174 = .ok (.ireturn, 1) := dk_172 (dk_at dksX0_image_7 10 rfl rfl)
abbrev cX0_writes : ByteArray := prog_1_method_55_code
def yX0_writes : MethodName := ⟨RX0, "writes", "(I)V"⟩
def dkwX0_writes_0 : List UInt8 := [42, 180, 0, 112, 42, 89, 180, 1, 104, 90, 4, 96, 181, 1, 104, 27, 145, 84, 177]
abbrev dktX0_writes_0 : List UInt8 := dkwX0_writes_0 ++ []
theorem dksX0_writes_0 : cX0_writes.data.toList.drop 0 = dktX0_writes_0 := by decide +kernel
theorem dX0_writes_0 : decode cX0_writes 0 = .ok (.aload_n 0, 1) := dk_42 (dk_at dksX0_writes_0 0 rfl rfl)
theorem dX0_writes_1 : decode cX0_writes 1 = .ok (.getfield 112, 3) := dk_180 0 112 (dk_at dksX0_writes_0 1 rfl rfl)
theorem dX0_writes_4 : decode cX0_writes 4 = .ok (.aload_n 0, 1) := dk_42 (dk_at dksX0_writes_0 4 rfl rfl)
theorem dX0_writes_5 : decode cX0_writes 5 = .ok (.dup, 1) := dk_89 (dk_at dksX0_writes_0 5 rfl rfl)
theorem dX0_writes_6 : decode cX0_writes 6 = .ok (.getfield 360, 3) := dk_180 1 104 (dk_at dksX0_writes_0 6 rfl rfl)
theorem dX0_writes_9 : decode cX0_writes 9 = .ok (.dup_x1, 1) := dk_90 (dk_at dksX0_writes_0 9 rfl rfl)
theorem dX0_writes_10 : decode cX0_writes 10 = .ok (.iconst 1, 1) := dk_4 (dk_at dksX0_writes_0 10 rfl rfl)
theorem dX0_writes_11 : decode cX0_writes 11 = .ok (.iadd, 1) := dk_96 (dk_at dksX0_writes_0 11 rfl rfl)
theorem dX0_writes_12 : decode cX0_writes 12 = .ok (.putfield 360, 3) := dk_181 1 104 (dk_at dksX0_writes_0 12 rfl rfl)
theorem dX0_writes_15 : decode cX0_writes 15 = .ok (.iload_n 1, 1) := dk_27 (dk_at dksX0_writes_0 15 rfl rfl)
theorem dX0_writes_16 : decode cX0_writes 16 = .ok (.i2b, 1) := dk_145 (dk_at dksX0_writes_0 16 rfl rfl)
theorem dX0_writes_17 : decode cX0_writes 17 = .ok (.bastore, 1) := dk_84 (dk_at dksX0_writes_0 17 rfl rfl)
theorem dX0_writes_18 : decode cX0_writes 18 = .ok (.return_, 1) := dk_177 (dk_at dksX0_writes_0 18 rfl rfl)
abbrev cX0_check : ByteArray := prog_1_method_56_code
def yX0_check : MethodName := ⟨RX0, "check", "([BI)I"⟩
def dkwX0_check_1 : List UInt8 := [17, 0, 251, 112, 61, 132, 3, 1, 167, 255, 232, 28, 172]
abbrev dktX0_check_1 : List UInt8 := dkwX0_check_1 ++ []
def dkwX0_check_0 : List UInt8 := [17, 0, 163, 61, 3, 62, 29, 27, 162, 0, 25, 6, 28, 104, 42, 29, 51, 17, 0, 255, 126, 96]
abbrev dktX0_check_0 : List UInt8 := dkwX0_check_0 ++ dktX0_check_1
theorem dksX0_check_0 : cX0_check.data.toList.drop 0 = dktX0_check_0 := by decide +kernel
theorem dksX0_check_1 : cX0_check.data.toList.drop 22 = dktX0_check_1 := dk_seg dksX0_check_0 22 rfl rfl
theorem dX0_check_0 : decode cX0_check 0 = .ok (.sipush 163, 3) := dk_17 0 163 (dk_at dksX0_check_0 0 rfl rfl)
theorem dX0_check_3 : decode cX0_check 3 = .ok (.istore_n 2, 1) := dk_61 (dk_at dksX0_check_0 3 rfl rfl)
theorem dX0_check_4 : decode cX0_check 4 = .ok (.iconst 0, 1) := dk_3 (dk_at dksX0_check_0 4 rfl rfl)
theorem dX0_check_5 : decode cX0_check 5 = .ok (.istore_n 3, 1) := dk_62 (dk_at dksX0_check_0 5 rfl rfl)
theorem dX0_check_6 : decode cX0_check 6 = .ok (.iload_n 3, 1) := dk_29 (dk_at dksX0_check_0 6 rfl rfl)
theorem dX0_check_7 : decode cX0_check 7 = .ok (.iload_n 1, 1) := dk_27 (dk_at dksX0_check_0 7 rfl rfl)
theorem dX0_check_8 : decode cX0_check 8 = .ok (.if_icmp .ge 25, 3) := dk_162 0 25 (dk_at dksX0_check_0 8 rfl rfl)
theorem dX0_check_11 : decode cX0_check 11 = .ok (.iconst 3, 1) := dk_6 (dk_at dksX0_check_0 11 rfl rfl)
theorem dX0_check_12 : decode cX0_check 12 = .ok (.iload_n 2, 1) := dk_28 (dk_at dksX0_check_0 12 rfl rfl)
theorem dX0_check_13 : decode cX0_check 13 = .ok (.imul, 1) := dk_104 (dk_at dksX0_check_0 13 rfl rfl)
theorem dX0_check_14 : decode cX0_check 14 = .ok (.aload_n 0, 1) := dk_42 (dk_at dksX0_check_0 14 rfl rfl)
theorem dX0_check_15 : decode cX0_check 15 = .ok (.iload_n 3, 1) := dk_29 (dk_at dksX0_check_0 15 rfl rfl)
theorem dX0_check_16 : decode cX0_check 16 = .ok (.baload, 1) := dk_51 (dk_at dksX0_check_0 16 rfl rfl)
theorem dX0_check_17 : decode cX0_check 17 = .ok (.sipush 255, 3) := dk_17 0 255 (dk_at dksX0_check_0 17 rfl rfl)
theorem dX0_check_20 : decode cX0_check 20 = .ok (.iand, 1) := dk_126 (dk_at dksX0_check_0 20 rfl rfl)
theorem dX0_check_21 : decode cX0_check 21 = .ok (.iadd, 1) := dk_96 (dk_at dksX0_check_0 21 rfl rfl)
theorem dX0_check_22 : decode cX0_check 22 = .ok (.sipush 251, 3) := dk_17 0 251 (dk_at dksX0_check_1 0 rfl rfl)
theorem dX0_check_25 : decode cX0_check 25 = .ok (.irem, 1) := dk_112 (dk_at dksX0_check_1 3 rfl rfl)
theorem dX0_check_26 : decode cX0_check 26 = .ok (.istore_n 2, 1) := dk_61 (dk_at dksX0_check_1 4 rfl rfl)
theorem dX0_check_27 : decode cX0_check 27 = .ok (.iinc 3 1, 3) := dk_132 3 1 (dk_at dksX0_check_1 5 rfl rfl)
theorem dX0_check_30 : decode cX0_check 30 = .ok (.goto (-24), 3) := dk_167 255 232 (dk_at dksX0_check_1 8 rfl rfl)
theorem dX0_check_33 : decode cX0_check 33 = .ok (.iload_n 2, 1) := dk_28 (dk_at dksX0_check_1 11 rfl rfl)
theorem dX0_check_34 : decode cX0_check 34 = .ok (.ireturn, 1) := dk_172 (dk_at dksX0_check_1 12 rfl rfl)
abbrev cX0_octet : ByteArray := prog_1_method_58_code
def yX0_octet : MethodName := ⟨RX0, "octet", "(I)I"⟩
def dkwX0_octet_1 : List UInt8 := [17, 0, 255, 126, 172]
abbrev dktX0_octet_1 : List UInt8 := dkwX0_octet_1 ++ []
def dkwX0_octet_0 : List UInt8 := [27, 155, 0, 11, 27, 42, 180, 1, 104, 161, 0, 7, 2, 167, 0, 13, 42, 180, 0, 112, 27, 51]
abbrev dktX0_octet_0 : List UInt8 := dkwX0_octet_0 ++ dktX0_octet_1
theorem dksX0_octet_0 : cX0_octet.data.toList.drop 0 = dktX0_octet_0 := by decide +kernel
theorem dksX0_octet_1 : cX0_octet.data.toList.drop 22 = dktX0_octet_1 := dk_seg dksX0_octet_0 22 rfl rfl
theorem dX0_octet_0 : decode cX0_octet 0 = .ok (.iload_n 1, 1) := dk_27 (dk_at dksX0_octet_0 0 rfl rfl)
theorem dX0_octet_1 : decode cX0_octet 1 = .ok (.ifCond .lt 11, 3) := dk_155 0 11 (dk_at dksX0_octet_0 1 rfl rfl)
theorem dX0_octet_4 : decode cX0_octet 4 = .ok (.iload_n 1, 1) := dk_27 (dk_at dksX0_octet_0 4 rfl rfl)
theorem dX0_octet_5 : decode cX0_octet 5 = .ok (.aload_n 0, 1) := dk_42 (dk_at dksX0_octet_0 5 rfl rfl)
theorem dX0_octet_6 : decode cX0_octet 6 = .ok (.getfield 360, 3) := dk_180 1 104 (dk_at dksX0_octet_0 6 rfl rfl)
theorem dX0_octet_9 : decode cX0_octet 9 = .ok (.if_icmp .lt 7, 3) := dk_161 0 7 (dk_at dksX0_octet_0 9 rfl rfl)
theorem dX0_octet_12 : decode cX0_octet 12 = .ok (.iconst (-1), 1) := dk_2 (dk_at dksX0_octet_0 12 rfl rfl)
theorem dX0_octet_13 : decode cX0_octet 13 = .ok (.goto 13, 3) := dk_167 0 13 (dk_at dksX0_octet_0 13 rfl rfl)
theorem dX0_octet_16 : decode cX0_octet 16 = .ok (.aload_n 0, 1) := dk_42 (dk_at dksX0_octet_0 16 rfl rfl)
theorem dX0_octet_17 : decode cX0_octet 17 = .ok (.getfield 112, 3) := dk_180 0 112 (dk_at dksX0_octet_0 17 rfl rfl)
theorem dX0_octet_20 : decode cX0_octet 20 = .ok (.iload_n 1, 1) := dk_27 (dk_at dksX0_octet_0 20 rfl rfl)
theorem dX0_octet_21 : decode cX0_octet 21 = .ok (.baload, 1) := dk_51 (dk_at dksX0_octet_0 21 rfl rfl)
theorem dX0_octet_22 : decode cX0_octet 22 = .ok (.sipush 255, 3) := dk_17 0 255 (dk_at dksX0_octet_1 0 rfl rfl)
theorem dX0_octet_25 : decode cX0_octet 25 = .ok (.iand, 1) := dk_126 (dk_at dksX0_octet_1 3 rfl rfl)
theorem dX0_octet_26 : decode cX0_octet 26 = .ok (.ireturn, 1) := dk_172 (dk_at dksX0_octet_1 4 rfl rfl)
abbrev cX0_on : ByteArray := prog_1_method_61_code
def yX0_on : MethodName := ⟨RX0, "on", "()Z"⟩
def dkwX0_on_1 : List UInt8 := [172, 42, 180, 0, 83, 42, 180, 0, 87, 182, 1, 39, 87, 42, 3, 181, 0, 148, 4, 172]
abbrev dktX0_on_1 : List UInt8 := dkwX0_on_1 ++ []
def dkwX0_on_0 : List UInt8 := [42, 42, 182, 0, 129, 182, 1, 117, 154, 0, 17, 42, 8, 182, 0, 118, 155, 0, 7, 4, 167, 0, 4, 3]
abbrev dktX0_on_0 : List UInt8 := dkwX0_on_0 ++ dktX0_on_1
theorem dksX0_on_0 : cX0_on.data.toList.drop 0 = dktX0_on_0 := by decide +kernel
theorem dksX0_on_1 : cX0_on.data.toList.drop 24 = dktX0_on_1 := dk_seg dksX0_on_0 24 rfl rfl
theorem dX0_on_0 : decode cX0_on 0 = .ok (.aload_n 0, 1) := dk_42 (dk_at dksX0_on_0 0 rfl rfl)
theorem dX0_on_1 : decode cX0_on 1 = .ok (.aload_n 0, 1) := dk_42 (dk_at dksX0_on_0 1 rfl rfl)
theorem dX0_on_2 : decode cX0_on 2 = .ok (.invokevirtual 129, 3) := dk_182 0 129 (dk_at dksX0_on_0 2 rfl rfl)
theorem dX0_on_5 : decode cX0_on 5 = .ok (.invokevirtual 373, 3) := dk_182 1 117 (dk_at dksX0_on_0 5 rfl rfl)
theorem dX0_on_8 : decode cX0_on 8 = .ok (.ifCond .ne 17, 3) := dk_154 0 17 (dk_at dksX0_on_0 8 rfl rfl)
theorem dX0_on_11 : decode cX0_on 11 = .ok (.aload_n 0, 1) := dk_42 (dk_at dksX0_on_0 11 rfl rfl)
theorem dX0_on_12 : decode cX0_on 12 = .ok (.iconst 5, 1) := dk_8 (dk_at dksX0_on_0 12 rfl rfl)
theorem dX0_on_13 : decode cX0_on 13 = .ok (.invokevirtual 118, 3) := dk_182 0 118 (dk_at dksX0_on_0 13 rfl rfl)
theorem dX0_on_16 : decode cX0_on 16 = .ok (.ifCond .lt 7, 3) := dk_155 0 7 (dk_at dksX0_on_0 16 rfl rfl)
theorem dX0_on_19 : decode cX0_on 19 = .ok (.iconst 1, 1) := dk_4 (dk_at dksX0_on_0 19 rfl rfl)
theorem dX0_on_20 : decode cX0_on 20 = .ok (.goto 4, 3) := dk_167 0 4 (dk_at dksX0_on_0 20 rfl rfl)
theorem dX0_on_23 : decode cX0_on 23 = .ok (.iconst 0, 1) := dk_3 (dk_at dksX0_on_0 23 rfl rfl)
theorem dX0_on_24 : decode cX0_on 24 = .ok (.ireturn, 1) := dk_172 (dk_at dksX0_on_1 0 rfl rfl)
theorem dX0_on_25 : decode cX0_on 25 = .ok (.aload_n 0, 1) := dk_42 (dk_at dksX0_on_1 1 rfl rfl)
theorem dX0_on_26 : decode cX0_on 26 = .ok (.getfield 83, 3) := dk_180 0 83 (dk_at dksX0_on_1 2 rfl rfl)
theorem dX0_on_29 : decode cX0_on 29 = .ok (.aload_n 0, 1) := dk_42 (dk_at dksX0_on_1 5 rfl rfl)
theorem dX0_on_30 : decode cX0_on 30 = .ok (.getfield 87, 3) := dk_180 0 87 (dk_at dksX0_on_1 6 rfl rfl)
theorem dX0_on_33 : decode cX0_on 33 = .ok (.invokevirtual 295, 3) := dk_182 1 39 (dk_at dksX0_on_1 9 rfl rfl)
theorem dX0_on_36 : decode cX0_on 36 = .ok (.pop, 1) := dk_87 (dk_at dksX0_on_1 12 rfl rfl)
theorem dX0_on_37 : decode cX0_on 37 = .ok (.aload_n 0, 1) := dk_42 (dk_at dksX0_on_1 13 rfl rfl)
theorem dX0_on_38 : decode cX0_on 38 = .ok (.iconst 0, 1) := dk_3 (dk_at dksX0_on_1 14 rfl rfl)
theorem dX0_on_39 : decode cX0_on 39 = .ok (.putfield 148, 3) := dk_181 0 148 (dk_at dksX0_on_1 15 rfl rfl)
theorem dX0_on_42 : decode cX0_on 42 = .ok (.iconst 1, 1) := dk_4 (dk_at dksX0_on_1 18 rfl rfl)
theorem dX0_on_43 : decode cX0_on 43 = .ok (.ireturn, 1) := dk_172 (dk_at dksX0_on_1 19 rfl rfl)
abbrev cX0_comesOn : ByteArray := prog_1_method_60_code
def yX0_comesOn : MethodName := ⟨RX0, "comesOn", "(I)Z"⟩
def dkwX0_comesOn_8 : List UInt8 := [154, 0, 5, 3, 172, 132, 4, 1, 167, 255, 222, 4, 172]
abbrev dktX0_comesOn_8 : List UInt8 := dkwX0_comesOn_8 ++ []
def dkwX0_comesOn_7 : List UInt8 := [42, 182, 0, 169, 162, 0, 31, 42, 21, 4, 5, 42, 182, 0, 171, 96, 28, 21, 4, 104, 96, 182, 1, 114]
abbrev dktX0_comesOn_7 : List UInt8 := dkwX0_comesOn_7 ++ dktX0_comesOn_8
def dkwX0_comesOn_6 : List UInt8 := [21, 4, 96, 182, 1, 51, 21, 4, 120, 128, 181, 0, 179, 132, 4, 1, 167, 255, 207, 3, 54, 4, 21, 4]
abbrev dktX0_comesOn_6 : List UInt8 := dkwX0_comesOn_6 ++ dktX0_comesOn_7
def dkwX0_comesOn_5 : List UInt8 := [42, 5, 21, 4, 96, 182, 1, 51, 4, 164, 0, 5, 3, 172, 42, 180, 0, 87, 89, 180, 0, 179, 42, 5]
abbrev dktX0_comesOn_5 : List UInt8 := dkwX0_comesOn_5 ++ dktX0_comesOn_6
def dkwX0_comesOn_4 : List UInt8 := [3, 181, 0, 190, 42, 180, 0, 87, 3, 181, 0, 179, 3, 54, 4, 21, 4, 42, 182, 0, 171, 162, 0, 46]
abbrev dktX0_comesOn_4 : List UInt8 := dkwX0_comesOn_4 ++ dktX0_comesOn_5
def dkwX0_comesOn_3 : List UInt8 := [164, 0, 5, 3, 172, 42, 180, 0, 87, 42, 180, 0, 83, 182, 1, 39, 29, 181, 0, 176, 42, 180, 0, 87]
abbrev dktX0_comesOn_3 : List UInt8 := dkwX0_comesOn_3 ++ dktX0_comesOn_4
def dkwX0_comesOn_2 : List UInt8 := [27, 4, 100, 182, 1, 51, 42, 180, 0, 35, 27, 4, 100, 184, 1, 110, 160, 0, 10, 29, 17, 3, 231]
abbrev dktX0_comesOn_2 : List UInt8 := dkwX0_comesOn_2 ++ dktX0_comesOn_3
def dkwX0_comesOn_1 : List UInt8 := [182, 1, 6, 153, 0, 47, 27, 6, 42, 182, 0, 171, 96, 28, 42, 182, 0, 169, 104, 96, 160, 0, 30, 42]
abbrev dktX0_comesOn_1 : List UInt8 := dkwX0_comesOn_1 ++ dktX0_comesOn_2
def dkwX0_comesOn_0 : List UInt8 := [6, 42, 182, 0, 171, 96, 61, 42, 3, 182, 1, 51, 16, 8, 120, 42, 4, 182, 1, 51, 128, 62, 42]
abbrev dktX0_comesOn_0 : List UInt8 := dkwX0_comesOn_0 ++ dktX0_comesOn_1
theorem dksX0_comesOn_0 : cX0_comesOn.data.toList.drop 0 = dktX0_comesOn_0 := by decide +kernel
theorem dksX0_comesOn_1 : cX0_comesOn.data.toList.drop 23 = dktX0_comesOn_1 := dk_seg dksX0_comesOn_0 23 rfl rfl
theorem dksX0_comesOn_2 : cX0_comesOn.data.toList.drop 47 = dktX0_comesOn_2 := dk_seg dksX0_comesOn_1 24 rfl rfl
theorem dksX0_comesOn_3 : cX0_comesOn.data.toList.drop 70 = dktX0_comesOn_3 := dk_seg dksX0_comesOn_2 23 rfl rfl
theorem dksX0_comesOn_4 : cX0_comesOn.data.toList.drop 94 = dktX0_comesOn_4 := dk_seg dksX0_comesOn_3 24 rfl rfl
theorem dksX0_comesOn_5 : cX0_comesOn.data.toList.drop 118 = dktX0_comesOn_5 := dk_seg dksX0_comesOn_4 24 rfl rfl
theorem dksX0_comesOn_6 : cX0_comesOn.data.toList.drop 142 = dktX0_comesOn_6 := dk_seg dksX0_comesOn_5 24 rfl rfl
theorem dksX0_comesOn_7 : cX0_comesOn.data.toList.drop 166 = dktX0_comesOn_7 := dk_seg dksX0_comesOn_6 24 rfl rfl
theorem dksX0_comesOn_8 : cX0_comesOn.data.toList.drop 190 = dktX0_comesOn_8 := dk_seg dksX0_comesOn_7 24 rfl rfl
theorem dX0_comesOn_0 : decode cX0_comesOn 0 = .ok (.iconst 3, 1) := dk_6 (dk_at dksX0_comesOn_0 0 rfl rfl)
theorem dX0_comesOn_1 : decode cX0_comesOn 1 = .ok (.aload_n 0, 1) := dk_42 (dk_at dksX0_comesOn_0 1 rfl rfl)
theorem dX0_comesOn_2 : decode cX0_comesOn 2 = .ok (.invokevirtual 171, 3) := dk_182 0 171 (dk_at dksX0_comesOn_0 2 rfl rfl)
theorem dX0_comesOn_5 : decode cX0_comesOn 5 = .ok (.iadd, 1) := dk_96 (dk_at dksX0_comesOn_0 5 rfl rfl)
theorem dX0_comesOn_6 : decode cX0_comesOn 6 = .ok (.istore_n 2, 1) := dk_61 (dk_at dksX0_comesOn_0 6 rfl rfl)
theorem dX0_comesOn_7 : decode cX0_comesOn 7 = .ok (.aload_n 0, 1) := dk_42 (dk_at dksX0_comesOn_0 7 rfl rfl)
theorem dX0_comesOn_8 : decode cX0_comesOn 8 = .ok (.iconst 0, 1) := dk_3 (dk_at dksX0_comesOn_0 8 rfl rfl)
theorem dX0_comesOn_9 : decode cX0_comesOn 9 = .ok (.invokevirtual 307, 3) := dk_182 1 51 (dk_at dksX0_comesOn_0 9 rfl rfl)
theorem dX0_comesOn_12 : decode cX0_comesOn 12 = .ok (.bipush 8, 2) := dk_16 8 (dk_at dksX0_comesOn_0 12 rfl rfl)
theorem dX0_comesOn_14 : decode cX0_comesOn 14 = .ok (.ishl, 1) := dk_120 (dk_at dksX0_comesOn_0 14 rfl rfl)
theorem dX0_comesOn_15 : decode cX0_comesOn 15 = .ok (.aload_n 0, 1) := dk_42 (dk_at dksX0_comesOn_0 15 rfl rfl)
theorem dX0_comesOn_16 : decode cX0_comesOn 16 = .ok (.iconst 1, 1) := dk_4 (dk_at dksX0_comesOn_0 16 rfl rfl)
theorem dX0_comesOn_17 : decode cX0_comesOn 17 = .ok (.invokevirtual 307, 3) := dk_182 1 51 (dk_at dksX0_comesOn_0 17 rfl rfl)
theorem dX0_comesOn_20 : decode cX0_comesOn 20 = .ok (.ior, 1) := dk_128 (dk_at dksX0_comesOn_0 20 rfl rfl)
theorem dX0_comesOn_21 : decode cX0_comesOn 21 = .ok (.istore_n 3, 1) := dk_62 (dk_at dksX0_comesOn_0 21 rfl rfl)
theorem dX0_comesOn_22 : decode cX0_comesOn 22 = .ok (.aload_n 0, 1) := dk_42 (dk_at dksX0_comesOn_0 22 rfl rfl)
theorem dX0_comesOn_23 : decode cX0_comesOn 23 = .ok (.invokevirtual 262, 3) := dk_182 1 6 (dk_at dksX0_comesOn_1 0 rfl rfl)
theorem dX0_comesOn_26 : decode cX0_comesOn 26 = .ok (.ifCond .eq 47, 3) := dk_153 0 47 (dk_at dksX0_comesOn_1 3 rfl rfl)
theorem dX0_comesOn_29 : decode cX0_comesOn 29 = .ok (.iload_n 1, 1) := dk_27 (dk_at dksX0_comesOn_1 6 rfl rfl)
theorem dX0_comesOn_30 : decode cX0_comesOn 30 = .ok (.iconst 3, 1) := dk_6 (dk_at dksX0_comesOn_1 7 rfl rfl)
theorem dX0_comesOn_31 : decode cX0_comesOn 31 = .ok (.aload_n 0, 1) := dk_42 (dk_at dksX0_comesOn_1 8 rfl rfl)
theorem dX0_comesOn_32 : decode cX0_comesOn 32 = .ok (.invokevirtual 171, 3) := dk_182 0 171 (dk_at dksX0_comesOn_1 9 rfl rfl)
theorem dX0_comesOn_35 : decode cX0_comesOn 35 = .ok (.iadd, 1) := dk_96 (dk_at dksX0_comesOn_1 12 rfl rfl)
theorem dX0_comesOn_36 : decode cX0_comesOn 36 = .ok (.iload_n 2, 1) := dk_28 (dk_at dksX0_comesOn_1 13 rfl rfl)
theorem dX0_comesOn_37 : decode cX0_comesOn 37 = .ok (.aload_n 0, 1) := dk_42 (dk_at dksX0_comesOn_1 14 rfl rfl)
theorem dX0_comesOn_38 : decode cX0_comesOn 38 = .ok (.invokevirtual 169, 3) := dk_182 0 169 (dk_at dksX0_comesOn_1 15 rfl rfl)
theorem dX0_comesOn_41 : decode cX0_comesOn 41 = .ok (.imul, 1) := dk_104 (dk_at dksX0_comesOn_1 18 rfl rfl)
theorem dX0_comesOn_42 : decode cX0_comesOn 42 = .ok (.iadd, 1) := dk_96 (dk_at dksX0_comesOn_1 19 rfl rfl)
theorem dX0_comesOn_43 : decode cX0_comesOn 43 = .ok (.if_icmp .ne 30, 3) := dk_160 0 30 (dk_at dksX0_comesOn_1 20 rfl rfl)
theorem dX0_comesOn_46 : decode cX0_comesOn 46 = .ok (.aload_n 0, 1) := dk_42 (dk_at dksX0_comesOn_1 23 rfl rfl)
theorem dX0_comesOn_47 : decode cX0_comesOn 47 = .ok (.iload_n 1, 1) := dk_27 (dk_at dksX0_comesOn_2 0 rfl rfl)
theorem dX0_comesOn_48 : decode cX0_comesOn 48 = .ok (.iconst 1, 1) := dk_4 (dk_at dksX0_comesOn_2 1 rfl rfl)
theorem dX0_comesOn_49 : decode cX0_comesOn 49 = .ok (.isub, 1) := dk_100 (dk_at dksX0_comesOn_2 2 rfl rfl)
theorem dX0_comesOn_50 : decode cX0_comesOn 50 = .ok (.invokevirtual 307, 3) := dk_182 1 51 (dk_at dksX0_comesOn_2 3 rfl rfl)
theorem dX0_comesOn_53 : decode cX0_comesOn 53 = .ok (.aload_n 0, 1) := dk_42 (dk_at dksX0_comesOn_2 6 rfl rfl)
theorem dX0_comesOn_54 : decode cX0_comesOn 54 = .ok (.getfield 35, 3) := dk_180 0 35 (dk_at dksX0_comesOn_2 7 rfl rfl)
theorem dX0_comesOn_57 : decode cX0_comesOn 57 = .ok (.iload_n 1, 1) := dk_27 (dk_at dksX0_comesOn_2 10 rfl rfl)
theorem dX0_comesOn_58 : decode cX0_comesOn 58 = .ok (.iconst 1, 1) := dk_4 (dk_at dksX0_comesOn_2 11 rfl rfl)
theorem dX0_comesOn_59 : decode cX0_comesOn 59 = .ok (.isub, 1) := dk_100 (dk_at dksX0_comesOn_2 12 rfl rfl)
theorem dX0_comesOn_60 : decode cX0_comesOn 60 = .ok (.invokestatic 366, 3) := dk_184 1 110 (dk_at dksX0_comesOn_2 13 rfl rfl)
theorem dX0_comesOn_63 : decode cX0_comesOn 63 = .ok (.if_icmp .ne 10, 3) := dk_160 0 10 (dk_at dksX0_comesOn_2 16 rfl rfl)
theorem dX0_comesOn_66 : decode cX0_comesOn 66 = .ok (.iload_n 3, 1) := dk_29 (dk_at dksX0_comesOn_2 19 rfl rfl)
theorem dX0_comesOn_67 : decode cX0_comesOn 67 = .ok (.sipush 999, 3) := dk_17 3 231 (dk_at dksX0_comesOn_2 20 rfl rfl)
theorem dX0_comesOn_70 : decode cX0_comesOn 70 = .ok (.if_icmp .le 5, 3) := dk_164 0 5 (dk_at dksX0_comesOn_3 0 rfl rfl)
theorem dX0_comesOn_73 : decode cX0_comesOn 73 = .ok (.iconst 0, 1) := dk_3 (dk_at dksX0_comesOn_3 3 rfl rfl)
theorem dX0_comesOn_74 : decode cX0_comesOn 74 = .ok (.ireturn, 1) := dk_172 (dk_at dksX0_comesOn_3 4 rfl rfl)
theorem dX0_comesOn_75 : decode cX0_comesOn 75 = .ok (.aload_n 0, 1) := dk_42 (dk_at dksX0_comesOn_3 5 rfl rfl)
theorem dX0_comesOn_76 : decode cX0_comesOn 76 = .ok (.getfield 87, 3) := dk_180 0 87 (dk_at dksX0_comesOn_3 6 rfl rfl)
theorem dX0_comesOn_79 : decode cX0_comesOn 79 = .ok (.aload_n 0, 1) := dk_42 (dk_at dksX0_comesOn_3 9 rfl rfl)
theorem dX0_comesOn_80 : decode cX0_comesOn 80 = .ok (.getfield 83, 3) := dk_180 0 83 (dk_at dksX0_comesOn_3 10 rfl rfl)
theorem dX0_comesOn_83 : decode cX0_comesOn 83 = .ok (.invokevirtual 295, 3) := dk_182 1 39 (dk_at dksX0_comesOn_3 13 rfl rfl)
theorem dX0_comesOn_86 : decode cX0_comesOn 86 = .ok (.iload_n 3, 1) := dk_29 (dk_at dksX0_comesOn_3 16 rfl rfl)
theorem dX0_comesOn_87 : decode cX0_comesOn 87 = .ok (.putfield 176, 3) := dk_181 0 176 (dk_at dksX0_comesOn_3 17 rfl rfl)
theorem dX0_comesOn_90 : decode cX0_comesOn 90 = .ok (.aload_n 0, 1) := dk_42 (dk_at dksX0_comesOn_3 20 rfl rfl)
theorem dX0_comesOn_91 : decode cX0_comesOn 91 = .ok (.getfield 87, 3) := dk_180 0 87 (dk_at dksX0_comesOn_3 21 rfl rfl)
theorem dX0_comesOn_94 : decode cX0_comesOn 94 = .ok (.iconst 0, 1) := dk_3 (dk_at dksX0_comesOn_4 0 rfl rfl)
theorem dX0_comesOn_95 : decode cX0_comesOn 95 = .ok (.putfield 190, 3) := dk_181 0 190 (dk_at dksX0_comesOn_4 1 rfl rfl)
theorem dX0_comesOn_98 : decode cX0_comesOn 98 = .ok (.aload_n 0, 1) := dk_42 (dk_at dksX0_comesOn_4 4 rfl rfl)
theorem dX0_comesOn_99 : decode cX0_comesOn 99 = .ok (.getfield 87, 3) := dk_180 0 87 (dk_at dksX0_comesOn_4 5 rfl rfl)
theorem dX0_comesOn_102 : decode cX0_comesOn 102 = .ok (.iconst 0, 1) := dk_3 (dk_at dksX0_comesOn_4 8 rfl rfl)
theorem dX0_comesOn_103 : decode cX0_comesOn 103 = .ok (.putfield 179, 3) := dk_181 0 179 (dk_at dksX0_comesOn_4 9 rfl rfl)
theorem dX0_comesOn_106 : decode cX0_comesOn 106 = .ok (.iconst 0, 1) := dk_3 (dk_at dksX0_comesOn_4 12 rfl rfl)
theorem dX0_comesOn_107 : decode cX0_comesOn 107 = .ok (.istore 4, 2) := dk_54 4 (dk_at dksX0_comesOn_4 13 rfl rfl)
theorem dX0_comesOn_109 : decode cX0_comesOn 109 = .ok (.iload 4, 2) := dk_21 4 (dk_at dksX0_comesOn_4 15 rfl rfl)
theorem dX0_comesOn_111 : decode cX0_comesOn 111 = .ok (.aload_n 0, 1) := dk_42 (dk_at dksX0_comesOn_4 17 rfl rfl)
theorem dX0_comesOn_112 : decode cX0_comesOn 112 = .ok (.invokevirtual 171, 3) := dk_182 0 171 (dk_at dksX0_comesOn_4 18 rfl rfl)
theorem dX0_comesOn_115 : decode cX0_comesOn 115 = .ok (.if_icmp .ge 46, 3) := dk_162 0 46 (dk_at dksX0_comesOn_4 21 rfl rfl)
theorem dX0_comesOn_118 : decode cX0_comesOn 118 = .ok (.aload_n 0, 1) := dk_42 (dk_at dksX0_comesOn_5 0 rfl rfl)
theorem dX0_comesOn_119 : decode cX0_comesOn 119 = .ok (.iconst 2, 1) := dk_5 (dk_at dksX0_comesOn_5 1 rfl rfl)
theorem dX0_comesOn_120 : decode cX0_comesOn 120 = .ok (.iload 4, 2) := dk_21 4 (dk_at dksX0_comesOn_5 2 rfl rfl)
theorem dX0_comesOn_122 : decode cX0_comesOn 122 = .ok (.iadd, 1) := dk_96 (dk_at dksX0_comesOn_5 4 rfl rfl)
theorem dX0_comesOn_123 : decode cX0_comesOn 123 = .ok (.invokevirtual 307, 3) := dk_182 1 51 (dk_at dksX0_comesOn_5 5 rfl rfl)
theorem dX0_comesOn_126 : decode cX0_comesOn 126 = .ok (.iconst 1, 1) := dk_4 (dk_at dksX0_comesOn_5 8 rfl rfl)
theorem dX0_comesOn_127 : decode cX0_comesOn 127 = .ok (.if_icmp .le 5, 3) := dk_164 0 5 (dk_at dksX0_comesOn_5 9 rfl rfl)
theorem dX0_comesOn_130 : decode cX0_comesOn 130 = .ok (.iconst 0, 1) := dk_3 (dk_at dksX0_comesOn_5 12 rfl rfl)
theorem dX0_comesOn_131 : decode cX0_comesOn 131 = .ok (.ireturn, 1) := dk_172 (dk_at dksX0_comesOn_5 13 rfl rfl)
theorem dX0_comesOn_132 : decode cX0_comesOn 132 = .ok (.aload_n 0, 1) := dk_42 (dk_at dksX0_comesOn_5 14 rfl rfl)
theorem dX0_comesOn_133 : decode cX0_comesOn 133 = .ok (.getfield 87, 3) := dk_180 0 87 (dk_at dksX0_comesOn_5 15 rfl rfl)
theorem dX0_comesOn_136 : decode cX0_comesOn 136 = .ok (.dup, 1) := dk_89 (dk_at dksX0_comesOn_5 18 rfl rfl)
theorem dX0_comesOn_137 : decode cX0_comesOn 137 = .ok (.getfield 179, 3) := dk_180 0 179 (dk_at dksX0_comesOn_5 19 rfl rfl)
theorem dX0_comesOn_140 : decode cX0_comesOn 140 = .ok (.aload_n 0, 1) := dk_42 (dk_at dksX0_comesOn_5 22 rfl rfl)
theorem dX0_comesOn_141 : decode cX0_comesOn 141 = .ok (.iconst 2, 1) := dk_5 (dk_at dksX0_comesOn_5 23 rfl rfl)
theorem dX0_comesOn_142 : decode cX0_comesOn 142 = .ok (.iload 4, 2) := dk_21 4 (dk_at dksX0_comesOn_6 0 rfl rfl)
theorem dX0_comesOn_144 : decode cX0_comesOn 144 = .ok (.iadd, 1) := dk_96 (dk_at dksX0_comesOn_6 2 rfl rfl)
theorem dX0_comesOn_145 : decode cX0_comesOn 145 = .ok (.invokevirtual 307, 3) := dk_182 1 51 (dk_at dksX0_comesOn_6 3 rfl rfl)
theorem dX0_comesOn_148 : decode cX0_comesOn 148 = .ok (.iload 4, 2) := dk_21 4 (dk_at dksX0_comesOn_6 6 rfl rfl)
theorem dX0_comesOn_150 : decode cX0_comesOn 150 = .ok (.ishl, 1) := dk_120 (dk_at dksX0_comesOn_6 8 rfl rfl)
theorem dX0_comesOn_151 : decode cX0_comesOn 151 = .ok (.ior, 1) := dk_128 (dk_at dksX0_comesOn_6 9 rfl rfl)
theorem dX0_comesOn_152 : decode cX0_comesOn 152 = .ok (.putfield 179, 3) := dk_181 0 179 (dk_at dksX0_comesOn_6 10 rfl rfl)
theorem dX0_comesOn_155 : decode cX0_comesOn 155 = .ok (.iinc 4 1, 3) := dk_132 4 1 (dk_at dksX0_comesOn_6 13 rfl rfl)
theorem dX0_comesOn_158 : decode cX0_comesOn 158 = .ok (.goto (-49), 3) := dk_167 255 207 (dk_at dksX0_comesOn_6 16 rfl rfl)
theorem dX0_comesOn_161 : decode cX0_comesOn 161 = .ok (.iconst 0, 1) := dk_3 (dk_at dksX0_comesOn_6 19 rfl rfl)
theorem dX0_comesOn_162 : decode cX0_comesOn 162 = .ok (.istore 4, 2) := dk_54 4 (dk_at dksX0_comesOn_6 20 rfl rfl)
theorem dX0_comesOn_164 : decode cX0_comesOn 164 = .ok (.iload 4, 2) := dk_21 4 (dk_at dksX0_comesOn_6 22 rfl rfl)
theorem dX0_comesOn_166 : decode cX0_comesOn 166 = .ok (.aload_n 0, 1) := dk_42 (dk_at dksX0_comesOn_7 0 rfl rfl)
theorem dX0_comesOn_167 : decode cX0_comesOn 167 = .ok (.invokevirtual 169, 3) := dk_182 0 169 (dk_at dksX0_comesOn_7 1 rfl rfl)
theorem dX0_comesOn_170 : decode cX0_comesOn 170 = .ok (.if_icmp .ge 31, 3) := dk_162 0 31 (dk_at dksX0_comesOn_7 4 rfl rfl)
theorem dX0_comesOn_173 : decode cX0_comesOn 173 = .ok (.aload_n 0, 1) := dk_42 (dk_at dksX0_comesOn_7 7 rfl rfl)
theorem dX0_comesOn_174 : decode cX0_comesOn 174 = .ok (.iload 4, 2) := dk_21 4 (dk_at dksX0_comesOn_7 8 rfl rfl)
theorem dX0_comesOn_176 : decode cX0_comesOn 176 = .ok (.iconst 2, 1) := dk_5 (dk_at dksX0_comesOn_7 10 rfl rfl)
theorem dX0_comesOn_177 : decode cX0_comesOn 177 = .ok (.aload_n 0, 1) := dk_42 (dk_at dksX0_comesOn_7 11 rfl rfl)
theorem dX0_comesOn_178 : decode cX0_comesOn 178 = .ok (.invokevirtual 171, 3) := dk_182 0 171 (dk_at dksX0_comesOn_7 12 rfl rfl)
theorem dX0_comesOn_181 : decode cX0_comesOn 181 = .ok (.iadd, 1) := dk_96 (dk_at dksX0_comesOn_7 15 rfl rfl)
theorem dX0_comesOn_182 : decode cX0_comesOn 182 = .ok (.iload_n 2, 1) := dk_28 (dk_at dksX0_comesOn_7 16 rfl rfl)
theorem dX0_comesOn_183 : decode cX0_comesOn 183 = .ok (.iload 4, 2) := dk_21 4 (dk_at dksX0_comesOn_7 17 rfl rfl)
theorem dX0_comesOn_185 : decode cX0_comesOn 185 = .ok (.imul, 1) := dk_104 (dk_at dksX0_comesOn_7 19 rfl rfl)
theorem dX0_comesOn_186 : decode cX0_comesOn 186 = .ok (.iadd, 1) := dk_96 (dk_at dksX0_comesOn_7 20 rfl rfl)
theorem dX0_comesOn_187 : decode cX0_comesOn 187 = .ok (.invokevirtual 370, 3) := dk_182 1 114 (dk_at dksX0_comesOn_7 21 rfl rfl)
theorem dX0_comesOn_190 : decode cX0_comesOn 190 = .ok (.ifCond .ne 5, 3) := dk_154 0 5 (dk_at dksX0_comesOn_8 0 rfl rfl)
theorem dX0_comesOn_193 : decode cX0_comesOn 193 = .ok (.iconst 0, 1) := dk_3 (dk_at dksX0_comesOn_8 3 rfl rfl)
theorem dX0_comesOn_194 : decode cX0_comesOn 194 = .ok (.ireturn, 1) := dk_172 (dk_at dksX0_comesOn_8 4 rfl rfl)
theorem dX0_comesOn_195 : decode cX0_comesOn 195 = .ok (.iinc 4 1, 3) := dk_132 4 1 (dk_at dksX0_comesOn_8 5 rfl rfl)
theorem dX0_comesOn_198 : decode cX0_comesOn 198 = .ok (.goto (-34), 3) := dk_167 255 222 (dk_at dksX0_comesOn_8 8 rfl rfl)
theorem dX0_comesOn_201 : decode cX0_comesOn 201 = .ok (.iconst 1, 1) := dk_4 (dk_at dksX0_comesOn_8 11 rfl rfl)
theorem dX0_comesOn_202 : decode cX0_comesOn 202 = .ok (.ireturn, 1) := dk_172 (dk_at dksX0_comesOn_8 12 rfl rfl)
abbrev cX0_sayingOn : ByteArray := prog_1_method_59_code
def yX0_sayingOn : MethodName := ⟨RX0, "sayingOn", "(II)Z"⟩
def dkwX0_sayingOn_6 : List UInt8 := [3, 62, 132, 4, 1, 167, 255, 197, 29, 172]
abbrev dktX0_sayingOn_6 : List UInt8 := dkwX0_sayingOn_6 ++ []
def dkwX0_sayingOn_5 : List UInt8 := [79, 29, 153, 0, 22, 42, 28, 6, 96, 21, 4, 96, 182, 1, 51, 16, 99, 163, 0, 7, 4, 167, 0, 4]
abbrev dktX0_sayingOn_5 : List UInt8 := dkwX0_sayingOn_5 ++ dktX0_sayingOn_6
def dkwX0_sayingOn_4 : List UInt8 := [162, 0, 56, 42, 180, 0, 87, 180, 0, 187, 27, 50, 21, 4, 42, 28, 6, 96, 21, 4, 96, 182, 1, 51]
abbrev dktX0_sayingOn_4 : List UInt8 := dkwX0_sayingOn_4 ++ dktX0_sayingOn_5
def dkwX0_sayingOn_3 : List UInt8 := [180, 0, 87, 180, 0, 226, 27, 42, 28, 5, 96, 182, 1, 51, 79, 3, 54, 4, 21, 4, 42, 182, 0, 171]
abbrev dktX0_sayingOn_3 : List UInt8 := dkwX0_sayingOn_3 ++ dktX0_sayingOn_4
def dkwX0_sayingOn_2 : List UInt8 := [42, 28, 182, 1, 51, 79, 42, 180, 0, 87, 180, 0, 223, 27, 42, 28, 4, 96, 182, 1, 51, 79, 42]
abbrev dktX0_sayingOn_2 : List UInt8 := dkwX0_sayingOn_2 ++ dktX0_sayingOn_3
def dkwX0_sayingOn_1 : List UInt8 := [5, 96, 182, 1, 51, 16, 9, 163, 0, 7, 4, 167, 0, 4, 3, 62, 42, 180, 0, 87, 180, 0, 220, 27]
abbrev dktX0_sayingOn_1 : List UInt8 := dkwX0_sayingOn_1 ++ dktX0_sayingOn_2
def dkwX0_sayingOn_0 : List UInt8 := [42, 28, 182, 1, 51, 16, 9, 163, 0, 31, 42, 28, 4, 96, 182, 1, 51, 16, 9, 163, 0, 19, 42, 28]
abbrev dktX0_sayingOn_0 : List UInt8 := dkwX0_sayingOn_0 ++ dktX0_sayingOn_1
theorem dksX0_sayingOn_0 : cX0_sayingOn.data.toList.drop 0 = dktX0_sayingOn_0 := by decide +kernel
theorem dksX0_sayingOn_1 : cX0_sayingOn.data.toList.drop 24 = dktX0_sayingOn_1 := dk_seg dksX0_sayingOn_0 24 rfl rfl
theorem dksX0_sayingOn_2 : cX0_sayingOn.data.toList.drop 48 = dktX0_sayingOn_2 := dk_seg dksX0_sayingOn_1 24 rfl rfl
theorem dksX0_sayingOn_3 : cX0_sayingOn.data.toList.drop 71 = dktX0_sayingOn_3 := dk_seg dksX0_sayingOn_2 23 rfl rfl
theorem dksX0_sayingOn_4 : cX0_sayingOn.data.toList.drop 95 = dktX0_sayingOn_4 := dk_seg dksX0_sayingOn_3 24 rfl rfl
theorem dksX0_sayingOn_5 : cX0_sayingOn.data.toList.drop 119 = dktX0_sayingOn_5 := dk_seg dksX0_sayingOn_4 24 rfl rfl
theorem dksX0_sayingOn_6 : cX0_sayingOn.data.toList.drop 143 = dktX0_sayingOn_6 := dk_seg dksX0_sayingOn_5 24 rfl rfl
theorem dX0_sayingOn_0 : decode cX0_sayingOn 0 = .ok (.aload_n 0, 1) := dk_42 (dk_at dksX0_sayingOn_0 0 rfl rfl)
theorem dX0_sayingOn_1 : decode cX0_sayingOn 1 = .ok (.iload_n 2, 1) := dk_28 (dk_at dksX0_sayingOn_0 1 rfl rfl)
theorem dX0_sayingOn_2 : decode cX0_sayingOn 2 = .ok (.invokevirtual 307, 3) := dk_182 1 51 (dk_at dksX0_sayingOn_0 2 rfl rfl)
theorem dX0_sayingOn_5 : decode cX0_sayingOn 5 = .ok (.bipush 9, 2) := dk_16 9 (dk_at dksX0_sayingOn_0 5 rfl rfl)
theorem dX0_sayingOn_7 : decode cX0_sayingOn 7 = .ok (.if_icmp .gt 31, 3) := dk_163 0 31 (dk_at dksX0_sayingOn_0 7 rfl rfl)
theorem dX0_sayingOn_10 : decode cX0_sayingOn 10 = .ok (.aload_n 0, 1) := dk_42 (dk_at dksX0_sayingOn_0 10 rfl rfl)
theorem dX0_sayingOn_11 : decode cX0_sayingOn 11 = .ok (.iload_n 2, 1) := dk_28 (dk_at dksX0_sayingOn_0 11 rfl rfl)
theorem dX0_sayingOn_12 : decode cX0_sayingOn 12 = .ok (.iconst 1, 1) := dk_4 (dk_at dksX0_sayingOn_0 12 rfl rfl)
theorem dX0_sayingOn_13 : decode cX0_sayingOn 13 = .ok (.iadd, 1) := dk_96 (dk_at dksX0_sayingOn_0 13 rfl rfl)
theorem dX0_sayingOn_14 : decode cX0_sayingOn 14 = .ok (.invokevirtual 307, 3) := dk_182 1 51 (dk_at dksX0_sayingOn_0 14 rfl rfl)
theorem dX0_sayingOn_17 : decode cX0_sayingOn 17 = .ok (.bipush 9, 2) := dk_16 9 (dk_at dksX0_sayingOn_0 17 rfl rfl)
theorem dX0_sayingOn_19 : decode cX0_sayingOn 19 = .ok (.if_icmp .gt 19, 3) := dk_163 0 19 (dk_at dksX0_sayingOn_0 19 rfl rfl)
theorem dX0_sayingOn_22 : decode cX0_sayingOn 22 = .ok (.aload_n 0, 1) := dk_42 (dk_at dksX0_sayingOn_0 22 rfl rfl)
theorem dX0_sayingOn_23 : decode cX0_sayingOn 23 = .ok (.iload_n 2, 1) := dk_28 (dk_at dksX0_sayingOn_0 23 rfl rfl)
theorem dX0_sayingOn_24 : decode cX0_sayingOn 24 = .ok (.iconst 2, 1) := dk_5 (dk_at dksX0_sayingOn_1 0 rfl rfl)
theorem dX0_sayingOn_25 : decode cX0_sayingOn 25 = .ok (.iadd, 1) := dk_96 (dk_at dksX0_sayingOn_1 1 rfl rfl)
theorem dX0_sayingOn_26 : decode cX0_sayingOn 26 = .ok (.invokevirtual 307, 3) := dk_182 1 51 (dk_at dksX0_sayingOn_1 2 rfl rfl)
theorem dX0_sayingOn_29 : decode cX0_sayingOn 29 = .ok (.bipush 9, 2) := dk_16 9 (dk_at dksX0_sayingOn_1 5 rfl rfl)
theorem dX0_sayingOn_31 : decode cX0_sayingOn 31 = .ok (.if_icmp .gt 7, 3) := dk_163 0 7 (dk_at dksX0_sayingOn_1 7 rfl rfl)
theorem dX0_sayingOn_34 : decode cX0_sayingOn 34 = .ok (.iconst 1, 1) := dk_4 (dk_at dksX0_sayingOn_1 10 rfl rfl)
theorem dX0_sayingOn_35 : decode cX0_sayingOn 35 = .ok (.goto 4, 3) := dk_167 0 4 (dk_at dksX0_sayingOn_1 11 rfl rfl)
theorem dX0_sayingOn_38 : decode cX0_sayingOn 38 = .ok (.iconst 0, 1) := dk_3 (dk_at dksX0_sayingOn_1 14 rfl rfl)
theorem dX0_sayingOn_39 : decode cX0_sayingOn 39 = .ok (.istore_n 3, 1) := dk_62 (dk_at dksX0_sayingOn_1 15 rfl rfl)
theorem dX0_sayingOn_40 : decode cX0_sayingOn 40 = .ok (.aload_n 0, 1) := dk_42 (dk_at dksX0_sayingOn_1 16 rfl rfl)
theorem dX0_sayingOn_41 : decode cX0_sayingOn 41 = .ok (.getfield 87, 3) := dk_180 0 87 (dk_at dksX0_sayingOn_1 17 rfl rfl)
theorem dX0_sayingOn_44 : decode cX0_sayingOn 44 = .ok (.getfield 220, 3) := dk_180 0 220 (dk_at dksX0_sayingOn_1 20 rfl rfl)
theorem dX0_sayingOn_47 : decode cX0_sayingOn 47 = .ok (.iload_n 1, 1) := dk_27 (dk_at dksX0_sayingOn_1 23 rfl rfl)
theorem dX0_sayingOn_48 : decode cX0_sayingOn 48 = .ok (.aload_n 0, 1) := dk_42 (dk_at dksX0_sayingOn_2 0 rfl rfl)
theorem dX0_sayingOn_49 : decode cX0_sayingOn 49 = .ok (.iload_n 2, 1) := dk_28 (dk_at dksX0_sayingOn_2 1 rfl rfl)
theorem dX0_sayingOn_50 : decode cX0_sayingOn 50 = .ok (.invokevirtual 307, 3) := dk_182 1 51 (dk_at dksX0_sayingOn_2 2 rfl rfl)
theorem dX0_sayingOn_53 : decode cX0_sayingOn 53 = .ok (.iastore, 1) := dk_79 (dk_at dksX0_sayingOn_2 5 rfl rfl)
theorem dX0_sayingOn_54 : decode cX0_sayingOn 54 = .ok (.aload_n 0, 1) := dk_42 (dk_at dksX0_sayingOn_2 6 rfl rfl)
theorem dX0_sayingOn_55 : decode cX0_sayingOn 55 = .ok (.getfield 87, 3) := dk_180 0 87 (dk_at dksX0_sayingOn_2 7 rfl rfl)
theorem dX0_sayingOn_58 : decode cX0_sayingOn 58 = .ok (.getfield 223, 3) := dk_180 0 223 (dk_at dksX0_sayingOn_2 10 rfl rfl)
theorem dX0_sayingOn_61 : decode cX0_sayingOn 61 = .ok (.iload_n 1, 1) := dk_27 (dk_at dksX0_sayingOn_2 13 rfl rfl)
theorem dX0_sayingOn_62 : decode cX0_sayingOn 62 = .ok (.aload_n 0, 1) := dk_42 (dk_at dksX0_sayingOn_2 14 rfl rfl)
theorem dX0_sayingOn_63 : decode cX0_sayingOn 63 = .ok (.iload_n 2, 1) := dk_28 (dk_at dksX0_sayingOn_2 15 rfl rfl)
theorem dX0_sayingOn_64 : decode cX0_sayingOn 64 = .ok (.iconst 1, 1) := dk_4 (dk_at dksX0_sayingOn_2 16 rfl rfl)
theorem dX0_sayingOn_65 : decode cX0_sayingOn 65 = .ok (.iadd, 1) := dk_96 (dk_at dksX0_sayingOn_2 17 rfl rfl)
theorem dX0_sayingOn_66 : decode cX0_sayingOn 66 = .ok (.invokevirtual 307, 3) := dk_182 1 51 (dk_at dksX0_sayingOn_2 18 rfl rfl)
theorem dX0_sayingOn_69 : decode cX0_sayingOn 69 = .ok (.iastore, 1) := dk_79 (dk_at dksX0_sayingOn_2 21 rfl rfl)
theorem dX0_sayingOn_70 : decode cX0_sayingOn 70 = .ok (.aload_n 0, 1) := dk_42 (dk_at dksX0_sayingOn_2 22 rfl rfl)
theorem dX0_sayingOn_71 : decode cX0_sayingOn 71 = .ok (.getfield 87, 3) := dk_180 0 87 (dk_at dksX0_sayingOn_3 0 rfl rfl)
theorem dX0_sayingOn_74 : decode cX0_sayingOn 74 = .ok (.getfield 226, 3) := dk_180 0 226 (dk_at dksX0_sayingOn_3 3 rfl rfl)
theorem dX0_sayingOn_77 : decode cX0_sayingOn 77 = .ok (.iload_n 1, 1) := dk_27 (dk_at dksX0_sayingOn_3 6 rfl rfl)
theorem dX0_sayingOn_78 : decode cX0_sayingOn 78 = .ok (.aload_n 0, 1) := dk_42 (dk_at dksX0_sayingOn_3 7 rfl rfl)
theorem dX0_sayingOn_79 : decode cX0_sayingOn 79 = .ok (.iload_n 2, 1) := dk_28 (dk_at dksX0_sayingOn_3 8 rfl rfl)
theorem dX0_sayingOn_80 : decode cX0_sayingOn 80 = .ok (.iconst 2, 1) := dk_5 (dk_at dksX0_sayingOn_3 9 rfl rfl)
theorem dX0_sayingOn_81 : decode cX0_sayingOn 81 = .ok (.iadd, 1) := dk_96 (dk_at dksX0_sayingOn_3 10 rfl rfl)
theorem dX0_sayingOn_82 : decode cX0_sayingOn 82 = .ok (.invokevirtual 307, 3) := dk_182 1 51 (dk_at dksX0_sayingOn_3 11 rfl rfl)
theorem dX0_sayingOn_85 : decode cX0_sayingOn 85 = .ok (.iastore, 1) := dk_79 (dk_at dksX0_sayingOn_3 14 rfl rfl)
theorem dX0_sayingOn_86 : decode cX0_sayingOn 86 = .ok (.iconst 0, 1) := dk_3 (dk_at dksX0_sayingOn_3 15 rfl rfl)
theorem dX0_sayingOn_87 : decode cX0_sayingOn 87 = .ok (.istore 4, 2) := dk_54 4 (dk_at dksX0_sayingOn_3 16 rfl rfl)
theorem dX0_sayingOn_89 : decode cX0_sayingOn 89 = .ok (.iload 4, 2) := dk_21 4 (dk_at dksX0_sayingOn_3 18 rfl rfl)
theorem dX0_sayingOn_91 : decode cX0_sayingOn 91 = .ok (.aload_n 0, 1) := dk_42 (dk_at dksX0_sayingOn_3 20 rfl rfl)
theorem dX0_sayingOn_92 : decode cX0_sayingOn 92 = .ok (.invokevirtual 171, 3) := dk_182 0 171 (dk_at dksX0_sayingOn_3 21 rfl rfl)
theorem dX0_sayingOn_95 : decode cX0_sayingOn 95 = .ok (.if_icmp .ge 56, 3) := dk_162 0 56 (dk_at dksX0_sayingOn_4 0 rfl rfl)
theorem dX0_sayingOn_98 : decode cX0_sayingOn 98 = .ok (.aload_n 0, 1) := dk_42 (dk_at dksX0_sayingOn_4 3 rfl rfl)
theorem dX0_sayingOn_99 : decode cX0_sayingOn 99 = .ok (.getfield 87, 3) := dk_180 0 87 (dk_at dksX0_sayingOn_4 4 rfl rfl)
theorem dX0_sayingOn_102 : decode cX0_sayingOn 102 = .ok (.getfield 187, 3) := dk_180 0 187 (dk_at dksX0_sayingOn_4 7 rfl rfl)
theorem dX0_sayingOn_105 : decode cX0_sayingOn 105 = .ok (.iload_n 1, 1) := dk_27 (dk_at dksX0_sayingOn_4 10 rfl rfl)
theorem dX0_sayingOn_106 : decode cX0_sayingOn 106 = .ok (.aaload, 1) := dk_50 (dk_at dksX0_sayingOn_4 11 rfl rfl)
theorem dX0_sayingOn_107 : decode cX0_sayingOn 107 = .ok (.iload 4, 2) := dk_21 4 (dk_at dksX0_sayingOn_4 12 rfl rfl)
theorem dX0_sayingOn_109 : decode cX0_sayingOn 109 = .ok (.aload_n 0, 1) := dk_42 (dk_at dksX0_sayingOn_4 14 rfl rfl)
theorem dX0_sayingOn_110 : decode cX0_sayingOn 110 = .ok (.iload_n 2, 1) := dk_28 (dk_at dksX0_sayingOn_4 15 rfl rfl)
theorem dX0_sayingOn_111 : decode cX0_sayingOn 111 = .ok (.iconst 3, 1) := dk_6 (dk_at dksX0_sayingOn_4 16 rfl rfl)
theorem dX0_sayingOn_112 : decode cX0_sayingOn 112 = .ok (.iadd, 1) := dk_96 (dk_at dksX0_sayingOn_4 17 rfl rfl)
theorem dX0_sayingOn_113 : decode cX0_sayingOn 113 = .ok (.iload 4, 2) := dk_21 4 (dk_at dksX0_sayingOn_4 18 rfl rfl)
theorem dX0_sayingOn_115 : decode cX0_sayingOn 115 = .ok (.iadd, 1) := dk_96 (dk_at dksX0_sayingOn_4 20 rfl rfl)
theorem dX0_sayingOn_116 : decode cX0_sayingOn 116 = .ok (.invokevirtual 307, 3) := dk_182 1 51 (dk_at dksX0_sayingOn_4 21 rfl rfl)
theorem dX0_sayingOn_119 : decode cX0_sayingOn 119 = .ok (.iastore, 1) := dk_79 (dk_at dksX0_sayingOn_5 0 rfl rfl)
theorem dX0_sayingOn_120 : decode cX0_sayingOn 120 = .ok (.iload_n 3, 1) := dk_29 (dk_at dksX0_sayingOn_5 1 rfl rfl)
theorem dX0_sayingOn_121 : decode cX0_sayingOn 121 = .ok (.ifCond .eq 22, 3) := dk_153 0 22 (dk_at dksX0_sayingOn_5 2 rfl rfl)
theorem dX0_sayingOn_124 : decode cX0_sayingOn 124 = .ok (.aload_n 0, 1) := dk_42 (dk_at dksX0_sayingOn_5 5 rfl rfl)
theorem dX0_sayingOn_125 : decode cX0_sayingOn 125 = .ok (.iload_n 2, 1) := dk_28 (dk_at dksX0_sayingOn_5 6 rfl rfl)
theorem dX0_sayingOn_126 : decode cX0_sayingOn 126 = .ok (.iconst 3, 1) := dk_6 (dk_at dksX0_sayingOn_5 7 rfl rfl)
theorem dX0_sayingOn_127 : decode cX0_sayingOn 127 = .ok (.iadd, 1) := dk_96 (dk_at dksX0_sayingOn_5 8 rfl rfl)
theorem dX0_sayingOn_128 : decode cX0_sayingOn 128 = .ok (.iload 4, 2) := dk_21 4 (dk_at dksX0_sayingOn_5 9 rfl rfl)
theorem dX0_sayingOn_130 : decode cX0_sayingOn 130 = .ok (.iadd, 1) := dk_96 (dk_at dksX0_sayingOn_5 11 rfl rfl)
theorem dX0_sayingOn_131 : decode cX0_sayingOn 131 = .ok (.invokevirtual 307, 3) := dk_182 1 51 (dk_at dksX0_sayingOn_5 12 rfl rfl)
theorem dX0_sayingOn_134 : decode cX0_sayingOn 134 = .ok (.bipush 99, 2) := dk_16 99 (dk_at dksX0_sayingOn_5 15 rfl rfl)
theorem dX0_sayingOn_136 : decode cX0_sayingOn 136 = .ok (.if_icmp .gt 7, 3) := dk_163 0 7 (dk_at dksX0_sayingOn_5 17 rfl rfl)
theorem dX0_sayingOn_139 : decode cX0_sayingOn 139 = .ok (.iconst 1, 1) := dk_4 (dk_at dksX0_sayingOn_5 20 rfl rfl)
theorem dX0_sayingOn_140 : decode cX0_sayingOn 140 = .ok (.goto 4, 3) := dk_167 0 4 (dk_at dksX0_sayingOn_5 21 rfl rfl)
theorem dX0_sayingOn_143 : decode cX0_sayingOn 143 = .ok (.iconst 0, 1) := dk_3 (dk_at dksX0_sayingOn_6 0 rfl rfl)
theorem dX0_sayingOn_144 : decode cX0_sayingOn 144 = .ok (.istore_n 3, 1) := dk_62 (dk_at dksX0_sayingOn_6 1 rfl rfl)
theorem dX0_sayingOn_145 : decode cX0_sayingOn 145 = .ok (.iinc 4 1, 3) := dk_132 4 1 (dk_at dksX0_sayingOn_6 2 rfl rfl)
theorem dX0_sayingOn_148 : decode cX0_sayingOn 148 = .ok (.goto (-59), 3) := dk_167 255 197 (dk_at dksX0_sayingOn_6 5 rfl rfl)
theorem dX0_sayingOn_151 : decode cX0_sayingOn 151 = .ok (.iload_n 3, 1) := dk_29 (dk_at dksX0_sayingOn_6 8 rfl rfl)
theorem dX0_sayingOn_152 : decode cX0_sayingOn 152 = .ok (.ireturn, 1) := dk_172 (dk_at dksX0_sayingOn_6 9 rfl rfl)
abbrev cX0_status : ByteArray := prog_1_method_62_code
def yX0_status : MethodName := ⟨RX0, "status", "(I)I"⟩
def dkwX0_status_0 : List UInt8 := [27, 3, 8, 184, 0, 193, 153, 0, 12, 42, 180, 0, 62, 27, 46, 167, 0, 4, 2, 172]
abbrev dktX0_status_0 : List UInt8 := dkwX0_status_0 ++ []
theorem dksX0_status_0 : cX0_status.data.toList.drop 0 = dktX0_status_0 := by decide +kernel
theorem dX0_status_0 : decode cX0_status 0 = .ok (.iload_n 1, 1) := dk_27 (dk_at dksX0_status_0 0 rfl rfl)
theorem dX0_status_1 : decode cX0_status 1 = .ok (.iconst 0, 1) := dk_3 (dk_at dksX0_status_0 1 rfl rfl)
theorem dX0_status_2 : decode cX0_status 2 = .ok (.iconst 5, 1) := dk_8 (dk_at dksX0_status_0 2 rfl rfl)
theorem dX0_status_3 : decode cX0_status 3 = .ok (.invokestatic 193, 3) := dk_184 0 193 (dk_at dksX0_status_0 3 rfl rfl)
theorem dX0_status_6 : decode cX0_status 6 = .ok (.ifCond .eq 12, 3) := dk_153 0 12 (dk_at dksX0_status_0 6 rfl rfl)
theorem dX0_status_9 : decode cX0_status 9 = .ok (.aload_n 0, 1) := dk_42 (dk_at dksX0_status_0 9 rfl rfl)
theorem dX0_status_10 : decode cX0_status 10 = .ok (.getfield 62, 3) := dk_180 0 62 (dk_at dksX0_status_0 10 rfl rfl)
theorem dX0_status_13 : decode cX0_status 13 = .ok (.iload_n 1, 1) := dk_27 (dk_at dksX0_status_0 13 rfl rfl)
theorem dX0_status_14 : decode cX0_status 14 = .ok (.iaload, 1) := dk_46 (dk_at dksX0_status_0 14 rfl rfl)
theorem dX0_status_15 : decode cX0_status 15 = .ok (.goto 4, 3) := dk_167 0 4 (dk_at dksX0_status_0 15 rfl rfl)
theorem dX0_status_18 : decode cX0_status 18 = .ok (.iconst (-1), 1) := dk_2 (dk_at dksX0_status_0 18 rfl rfl)
theorem dX0_status_19 : decode cX0_status 19 = .ok (.ireturn, 1) := dk_172 (dk_at dksX0_status_0 19 rfl rfl)
theorem q147 : (Jvm.Cond.initialized "VerbAtDusk") ∈ lw_all := lw_g (lw_at lw_m1 1 rfl) rfl
theorem q190 : (Jvm.Cond.instantiable "VerbAtDusk" (24 : Nat)) ∈ lw_all := lw_g (lw_at lw_m1 44 rfl) rfl
theorem q192 : (Jvm.Cond.instanceMethod ({ cls := "VerbAtDusk", name := "<init>", desc := "()V" } : Jvm.MethodName)) ∈ lw_all := lw_g (lw_at lw_m1 46 rfl) rfl
theorem q193 : (Jvm.Cond.code ({ cls := "VerbAtDusk", name := "<init>", desc := "()V" } : Jvm.MethodName) prog_1_method_7_code (2 : Nat) (Option.none : Option Jvm.ClassFile.FieldType)) ∈ lw_all := lw_g (lw_at lw_m1 47 rfl) rfl
theorem q194 : (Jvm.Cond.methodLink "VerbAtDusk" (22 : Nat) ({ cls := "java/lang/Object", name := "<init>", desc := "()V" } : Jvm.MethodName)) ∈ lw_all := lw_g (lw_at lw_m1 48 rfl) rfl
theorem q197 : (Jvm.Cond.classLink "VerbAtDusk" (28 : Nat) "VerbAtDusk$Country") ∈ lw_all := lw_g (lw_at lw_m1 51 rfl) rfl
theorem q199 : (Jvm.Cond.methodLinkNest "VerbAtDusk" (30 : Nat) ({ cls := "VerbAtDusk$Country", name := "<init>", desc := "()V" } : Jvm.MethodName) "VerbAtDusk") ∈ lw_tbl := lw_at lw_m1 53 rfl
theorem q231 : (Jvm.Cond.fieldLinkNest "VerbAtDusk" (154 : Nat) "VerbAtDusk$Country" "statements" "I" "VerbAtDusk") ∈ lw_tbl := lw_at lw_m1 85 rfl
theorem q235 : (Jvm.Cond.fieldLinkNest "VerbAtDusk" (173 : Nat) "VerbAtDusk$Country" "dusk" "I" "VerbAtDusk") ∈ lw_tbl := lw_at lw_m1 89 rfl
theorem q239 : (Jvm.Cond.fieldLinkNest "VerbAtDusk" (333 : Nat) "VerbAtDusk$Country" "ditch" "I" "VerbAtDusk") ∈ lw_tbl := lw_at lw_m1 93 rfl
theorem q242 : (Jvm.Cond.fieldLinkNest "VerbAtDusk" (157 : Nat) "VerbAtDusk$Country" "sayings" "Ljava/util/List;" "VerbAtDusk") ∈ lw_tbl := lw_at lw_m1 96 rfl
theorem q247 : (Jvm.Cond.fieldLinkNest "VerbAtDusk" (166 : Nat) "VerbAtDusk$Country" "verbs" "Ljava/util/List;" "VerbAtDusk") ∈ lw_tbl := lw_at lw_m1 101 rfl
theorem q273 : (Jvm.Cond.classLink "VerbAtDusk" (43 : Nat) "VerbAtDusk$Reader") ∈ lw_all := lw_g (lw_at lw_m1 127 rfl) rfl
theorem q275 : (Jvm.Cond.methodLinkNest "VerbAtDusk" (45 : Nat) ({ cls := "VerbAtDusk$Reader", name := "<init>", desc := "(LVerbAtDusk;)V" } : Jvm.MethodName) "VerbAtDusk") ∈ lw_tbl := lw_at lw_m1 129 rfl
theorem q331 : (Jvm.Cond.fieldLinkNest "VerbAtDusk" (139 : Nat) "VerbAtDusk$Fault" "kind" "I" "VerbAtDusk") ∈ lw_tbl := lw_at lw_m1 185 rfl
theorem q333 : (Jvm.Cond.fieldLinkNest "VerbAtDusk" (142 : Nat) "VerbAtDusk$Fault" "place" "I" "VerbAtDusk") ∈ lw_tbl := lw_at lw_m1 187 rfl
theorem q377 : (Jvm.Cond.classLink "VerbAtDusk" (52 : Nat) "VerbAtDusk$Moment") ∈ lw_all := lw_g (lw_at lw_m1 231 rfl) rfl
theorem q379 : (Jvm.Cond.methodLinkNest "VerbAtDusk" (54 : Nat) ({ cls := "VerbAtDusk$Moment", name := "<init>", desc := "()V" } : Jvm.MethodName) "VerbAtDusk") ∈ lw_tbl := lw_at lw_m1 233 rfl
theorem q386 : (Jvm.Cond.fieldLinkNest "VerbAtDusk" (346 : Nat) "VerbAtDusk$Moment" "of" "[J" "VerbAtDusk") ∈ lw_tbl := lw_at lw_m2 0 rfl
theorem q391 : (Jvm.Cond.classLink "VerbAtDusk" (66 : Nat) "VerbAtDusk$Walk") ∈ lw_all := lw_g (lw_at lw_m2 5 rfl) rfl
theorem q393 : (Jvm.Cond.methodLinkNest "VerbAtDusk" (68 : Nat) ({ cls := "VerbAtDusk$Walk", name := "<init>", desc := "(LVerbAtDusk;)V" } : Jvm.MethodName) "VerbAtDusk") ∈ lw_tbl := lw_at lw_m2 7 rfl
theorem q398 : (Jvm.Cond.fieldLinkNest "VerbAtDusk" (272 : Nat) "VerbAtDusk$Walk" "order" "[I" "VerbAtDusk") ∈ lw_tbl := lw_at lw_m2 12 rfl
theorem q403 : (Jvm.Cond.fieldLinkNest "VerbAtDusk" (269 : Nat) "VerbAtDusk$Walk" "least" "I" "VerbAtDusk") ∈ lw_tbl := lw_at lw_m2 17 rfl
theorem q419 : (Jvm.Cond.classLink "VerbAtDusk" (73 : Nat) "VerbAtDusk$Giving") ∈ lw_all := lw_g (lw_at lw_m2 33 rfl) rfl
theorem q421 : (Jvm.Cond.methodLinkNest "VerbAtDusk" (75 : Nat) ({ cls := "VerbAtDusk$Giving", name := "<init>", desc := "(LVerbAtDusk;)V" } : Jvm.MethodName) "VerbAtDusk") ∈ lw_tbl := lw_at lw_m2 35 rfl
theorem q433 : (Jvm.Cond.fieldLinkNest "VerbAtDusk" (213 : Nat) "VerbAtDusk$Giving" "best" "[I" "VerbAtDusk") ∈ lw_tbl := lw_at lw_m2 47 rfl
theorem q435 : (Jvm.Cond.fieldLinkNest "VerbAtDusk" (289 : Nat) "VerbAtDusk$Giving" "tried" "[I" "VerbAtDusk") ∈ lw_tbl := lw_at lw_m2 49 rfl
theorem q439 : (Jvm.Cond.fieldLinkNest "VerbAtDusk" (210 : Nat) "VerbAtDusk$Giving" "is" "Z" "VerbAtDusk") ∈ lw_tbl := lw_at lw_m2 53 rfl
theorem q441 : (Jvm.Cond.fieldLinkNest "VerbAtDusk" (266 : Nat) "VerbAtDusk$Giving" "most" "J" "VerbAtDusk") ∈ lw_tbl := lw_at lw_m2 55 rfl
theorem q443 : (Jvm.Cond.fieldLinkNest "VerbAtDusk" (286 : Nat) "VerbAtDusk$Giving" "fewest" "I" "VerbAtDusk") ∈ lw_tbl := lw_at lw_m2 57 rfl
theorem q465 : (Jvm.Cond.classLink "VerbAtDusk" (80 : Nat) "VerbAtDusk$State") ∈ lw_all := lw_g (lw_at lw_m2 79 rfl) rfl
theorem q467 : (Jvm.Cond.methodLinkNest "VerbAtDusk" (82 : Nat) ({ cls := "VerbAtDusk$State", name := "<init>", desc := "(LVerbAtDusk;)V" } : Jvm.MethodName) "VerbAtDusk") ∈ lw_tbl := lw_at lw_m2 81 rfl
theorem q474 : (Jvm.Cond.fieldLinkNest "VerbAtDusk" (176 : Nat) "VerbAtDusk$State" "day" "I" "VerbAtDusk") ∈ lw_tbl := lw_at lw_m2 88 rfl
theorem q476 : (Jvm.Cond.fieldLinkNest "VerbAtDusk" (179 : Nat) "VerbAtDusk$State" "lent" "I" "VerbAtDusk") ∈ lw_tbl := lw_at lw_m2 90 rfl
theorem q478 : (Jvm.Cond.fieldLinkNest "VerbAtDusk" (190 : Nat) "VerbAtDusk$State" "keeps" "I" "VerbAtDusk") ∈ lw_tbl := lw_at lw_m2 92 rfl
theorem q481 : (Jvm.Cond.fieldLinkNest "VerbAtDusk" (220 : Nat) "VerbAtDusk$State" "column" "[I" "VerbAtDusk") ∈ lw_tbl := lw_at lw_m2 95 rfl
theorem q484 : (Jvm.Cond.fieldLinkNest "VerbAtDusk" (223 : Nat) "VerbAtDusk$State" "row" "[I" "VerbAtDusk") ∈ lw_tbl := lw_at lw_m2 98 rfl
theorem q486 : (Jvm.Cond.fieldLinkNest "VerbAtDusk" (226 : Nat) "VerbAtDusk$State" "tone" "[I" "VerbAtDusk") ∈ lw_tbl := lw_at lw_m2 100 rfl
theorem q488 : (Jvm.Cond.fieldLinkNest "VerbAtDusk" (305 : Nat) "VerbAtDusk$State" "gets" "[I" "VerbAtDusk") ∈ lw_tbl := lw_at lw_m2 102 rfl
theorem q490 : (Jvm.Cond.fieldLinkNest "VerbAtDusk" (187 : Nat) "VerbAtDusk$State" "given" "[[I" "VerbAtDusk") ∈ lw_tbl := lw_at lw_m2 104 rfl
theorem q492 : (Jvm.Cond.fieldLinkNest "VerbAtDusk" (260 : Nat) "VerbAtDusk$State" "rows" "[[I" "VerbAtDusk") ∈ lw_tbl := lw_at lw_m2 106 rfl
theorem q515 : (Jvm.Cond.classLink "VerbAtDusk" (99 : Nat) "[[I") ∈ lw_all := lw_g (lw_at lw_m2 129 rfl) rfl
theorem q519 : (Jvm.Cond.fieldLink "VerbAtDusk" (31 : Nat) "VerbAtDusk" "country" "LVerbAtDusk$Country;") ∈ lw_all := lw_g (lw_at lw_m2 133 rfl) rfl
theorem q521 : (Jvm.Cond.fieldLink "VerbAtDusk" (35 : Nat) "VerbAtDusk" "tape" "[B") ∈ lw_all := lw_g (lw_at lw_m2 135 rfl) rfl
theorem q522 : (Jvm.Cond.fieldLink "VerbAtDusk" (115 : Nat) "VerbAtDusk" "taped" "I") ∈ lw_all := lw_g (lw_at lw_m2 136 rfl) rfl
theorem q523 : (Jvm.Cond.fieldLink "VerbAtDusk" (126 : Nat) "VerbAtDusk" "faultKind" "I") ∈ lw_all := lw_g (lw_at lw_m2 137 rfl) rfl
theorem q524 : (Jvm.Cond.fieldLink "VerbAtDusk" (39 : Nat) "VerbAtDusk" "faultPlace" "I") ∈ lw_all := lw_g (lw_at lw_m2 138 rfl) rfl
theorem q525 : (Jvm.Cond.fieldLink "VerbAtDusk" (48 : Nat) "VerbAtDusk" "reader" "LVerbAtDusk$Reader;") ∈ lw_all := lw_g (lw_at lw_m2 139 rfl) rfl
theorem q527 : (Jvm.Cond.fieldLink "VerbAtDusk" (55 : Nat) "VerbAtDusk" "moment" "LVerbAtDusk$Moment;") ∈ lw_all := lw_g (lw_at lw_m2 141 rfl) rfl
theorem q528 : (Jvm.Cond.fieldLink "VerbAtDusk" (59 : Nat) "VerbAtDusk" "asked" "LVerbAtDusk$Moment;") ∈ lw_all := lw_g (lw_at lw_m2 142 rfl) rfl
theorem q529 : (Jvm.Cond.fieldLink "VerbAtDusk" (62 : Nat) "VerbAtDusk" "refused" "[I") ∈ lw_all := lw_g (lw_at lw_m2 143 rfl) rfl
theorem q530 : (Jvm.Cond.fieldLink "VerbAtDusk" (69 : Nat) "VerbAtDusk" "walk" "LVerbAtDusk$Walk;") ∈ lw_all := lw_g (lw_at lw_m2 144 rfl) rfl
theorem q532 : (Jvm.Cond.fieldLink "VerbAtDusk" (76 : Nat) "VerbAtDusk" "giving" "LVerbAtDusk$Giving;") ∈ lw_all := lw_g (lw_at lw_m2 146 rfl) rfl
theorem q534 : (Jvm.Cond.fieldLink "VerbAtDusk" (83 : Nat) "VerbAtDusk" "now" "LVerbAtDusk$State;") ∈ lw_all := lw_g (lw_at lw_m2 148 rfl) rfl
theorem q535 : (Jvm.Cond.fieldLink "VerbAtDusk" (87 : Nat) "VerbAtDusk" "tried" "LVerbAtDusk$State;") ∈ lw_all := lw_g (lw_at lw_m2 149 rfl) rfl
theorem q536 : (Jvm.Cond.fieldLink "VerbAtDusk" (90 : Nat) "VerbAtDusk" "rowDay" "[I") ∈ lw_all := lw_g (lw_at lw_m2 150 rfl) rfl
theorem q537 : (Jvm.Cond.fieldLink "VerbAtDusk" (93 : Nat) "VerbAtDusk" "rowWho" "[I") ∈ lw_all := lw_g (lw_at lw_m2 151 rfl) rfl
theorem q538 : (Jvm.Cond.fieldLink "VerbAtDusk" (96 : Nat) "VerbAtDusk" "rowVerb" "[I") ∈ lw_all := lw_g (lw_at lw_m2 152 rfl) rfl
theorem q539 : (Jvm.Cond.fieldLink "VerbAtDusk" (151 : Nat) "VerbAtDusk" "rows" "I") ∈ lw_all := lw_g (lw_at lw_m2 153 rfl) rfl
theorem q540 : (Jvm.Cond.fieldLink "VerbAtDusk" (101 : Nat) "VerbAtDusk" "getsBy" "[[I") ∈ lw_all := lw_g (lw_at lw_m2 154 rfl) rfl
theorem q541 : (Jvm.Cond.fieldLink "VerbAtDusk" (104 : Nat) "VerbAtDusk" "kept" "[LVerbAtDusk$State;") ∈ lw_all := lw_g (lw_at lw_m2 155 rfl) rfl
theorem q542 : (Jvm.Cond.fieldLink "VerbAtDusk" (148 : Nat) "VerbAtDusk" "undos" "I") ∈ lw_all := lw_g (lw_at lw_m2 156 rfl) rfl
theorem q543 : (Jvm.Cond.fieldLink "VerbAtDusk" (108 : Nat) "VerbAtDusk" "seeds" "J") ∈ lw_all := lw_g (lw_at lw_m2 157 rfl) rfl
theorem q544 : (Jvm.Cond.fieldLink "VerbAtDusk" (339 : Nat) "VerbAtDusk" "askedSaying" "I") ∈ lw_all := lw_g (lw_at lw_m2 158 rfl) rfl
theorem q545 : (Jvm.Cond.fieldLink "VerbAtDusk" (112 : Nat) "VerbAtDusk" "out" "[B") ∈ lw_all := lw_g (lw_at lw_m2 159 rfl) rfl
theorem q546 : (Jvm.Cond.fieldLink "VerbAtDusk" (360 : Nat) "VerbAtDusk" "outs" "I") ∈ lw_all := lw_g (lw_at lw_m2 160 rfl) rfl
theorem q547 : (Jvm.Cond.lays "VerbAtDusk" "VerbAtDusk" "country" "LVerbAtDusk$Country;") ∈ lw_all := lw_g (lw_at lw_m2 161 rfl) rfl
theorem q548 : (Jvm.Cond.soleField "VerbAtDusk" "country") ∈ lw_all := lw_g (lw_at lw_m2 162 rfl) rfl
theorem q549 : (Jvm.Cond.laysFinal "VerbAtDusk" "VerbAtDusk" "tape" "[B") ∈ lw_all := lw_g (lw_at lw_m2 163 rfl) rfl
theorem q550 : (Jvm.Cond.soleField "VerbAtDusk" "tape") ∈ lw_all := lw_g (lw_at lw_m2 164 rfl) rfl
theorem q551 : (Jvm.Cond.lays "VerbAtDusk" "VerbAtDusk" "taped" "I") ∈ lw_all := lw_g (lw_at lw_m2 165 rfl) rfl
theorem q552 : (Jvm.Cond.soleField "VerbAtDusk" "taped") ∈ lw_all := lw_g (lw_at lw_m2 166 rfl) rfl
theorem q553 : (Jvm.Cond.lays "VerbAtDusk" "VerbAtDusk" "faultKind" "I") ∈ lw_all := lw_g (lw_at lw_m2 167 rfl) rfl
theorem q554 : (Jvm.Cond.soleField "VerbAtDusk" "faultKind") ∈ lw_all := lw_g (lw_at lw_m2 168 rfl) rfl
theorem q555 : (Jvm.Cond.lays "VerbAtDusk" "VerbAtDusk" "faultPlace" "I") ∈ lw_all := lw_g (lw_at lw_m2 169 rfl) rfl
theorem q556 : (Jvm.Cond.soleField "VerbAtDusk" "faultPlace") ∈ lw_all := lw_g (lw_at lw_m2 170 rfl) rfl
theorem q557 : (Jvm.Cond.laysFinal "VerbAtDusk" "VerbAtDusk" "reader" "LVerbAtDusk$Reader;") ∈ lw_all := lw_g (lw_at lw_m2 171 rfl) rfl
theorem q558 : (Jvm.Cond.soleField "VerbAtDusk" "reader") ∈ lw_all := lw_g (lw_at lw_m2 172 rfl) rfl
theorem q559 : (Jvm.Cond.laysFinal "VerbAtDusk" "VerbAtDusk" "moment" "LVerbAtDusk$Moment;") ∈ lw_all := lw_g (lw_at lw_m2 173 rfl) rfl
theorem q560 : (Jvm.Cond.soleField "VerbAtDusk" "moment") ∈ lw_all := lw_g (lw_at lw_m2 174 rfl) rfl
theorem q561 : (Jvm.Cond.laysFinal "VerbAtDusk" "VerbAtDusk" "asked" "LVerbAtDusk$Moment;") ∈ lw_all := lw_g (lw_at lw_m2 175 rfl) rfl
theorem q562 : (Jvm.Cond.soleField "VerbAtDusk" "asked") ∈ lw_all := lw_g (lw_at lw_m2 176 rfl) rfl
theorem q563 : (Jvm.Cond.laysFinal "VerbAtDusk" "VerbAtDusk" "refused" "[I") ∈ lw_all := lw_g (lw_at lw_m2 177 rfl) rfl
theorem q564 : (Jvm.Cond.soleField "VerbAtDusk" "refused") ∈ lw_all := lw_g (lw_at lw_m2 178 rfl) rfl
theorem q565 : (Jvm.Cond.laysFinal "VerbAtDusk" "VerbAtDusk" "walk" "LVerbAtDusk$Walk;") ∈ lw_all := lw_g (lw_at lw_m2 179 rfl) rfl
theorem q566 : (Jvm.Cond.soleField "VerbAtDusk" "walk") ∈ lw_all := lw_g (lw_at lw_m2 180 rfl) rfl
theorem q567 : (Jvm.Cond.laysFinal "VerbAtDusk" "VerbAtDusk" "giving" "LVerbAtDusk$Giving;") ∈ lw_all := lw_g (lw_at lw_m2 181 rfl) rfl
theorem q568 : (Jvm.Cond.soleField "VerbAtDusk" "giving") ∈ lw_all := lw_g (lw_at lw_m2 182 rfl) rfl
theorem q569 : (Jvm.Cond.laysFinal "VerbAtDusk" "VerbAtDusk" "now" "LVerbAtDusk$State;") ∈ lw_all := lw_g (lw_at lw_m2 183 rfl) rfl
theorem q570 : (Jvm.Cond.soleField "VerbAtDusk" "now") ∈ lw_all := lw_g (lw_at lw_m2 184 rfl) rfl
theorem q571 : (Jvm.Cond.laysFinal "VerbAtDusk" "VerbAtDusk" "tried" "LVerbAtDusk$State;") ∈ lw_all := lw_g (lw_at lw_m2 185 rfl) rfl
theorem q572 : (Jvm.Cond.soleField "VerbAtDusk" "tried") ∈ lw_all := lw_g (lw_at lw_m2 186 rfl) rfl
theorem q573 : (Jvm.Cond.laysFinal "VerbAtDusk" "VerbAtDusk" "rowDay" "[I") ∈ lw_all := lw_g (lw_at lw_m2 187 rfl) rfl
theorem q574 : (Jvm.Cond.soleField "VerbAtDusk" "rowDay") ∈ lw_all := lw_g (lw_at lw_m2 188 rfl) rfl
theorem q575 : (Jvm.Cond.laysFinal "VerbAtDusk" "VerbAtDusk" "rowWho" "[I") ∈ lw_all := lw_g (lw_at lw_m2 189 rfl) rfl
theorem q576 : (Jvm.Cond.soleField "VerbAtDusk" "rowWho") ∈ lw_all := lw_g (lw_at lw_m2 190 rfl) rfl
theorem q577 : (Jvm.Cond.laysFinal "VerbAtDusk" "VerbAtDusk" "rowVerb" "[I") ∈ lw_all := lw_g (lw_at lw_m2 191 rfl) rfl
theorem q578 : (Jvm.Cond.soleField "VerbAtDusk" "rowVerb") ∈ lw_all := lw_g (lw_at lw_m2 192 rfl) rfl
theorem q579 : (Jvm.Cond.lays "VerbAtDusk" "VerbAtDusk" "rows" "I") ∈ lw_all := lw_g (lw_at lw_m2 193 rfl) rfl
theorem q580 : (Jvm.Cond.soleField "VerbAtDusk" "rows") ∈ lw_all := lw_g (lw_at lw_m2 194 rfl) rfl
theorem q581 : (Jvm.Cond.laysFinal "VerbAtDusk" "VerbAtDusk" "getsBy" "[[I") ∈ lw_all := lw_g (lw_at lw_m2 195 rfl) rfl
theorem q582 : (Jvm.Cond.soleField "VerbAtDusk" "getsBy") ∈ lw_all := lw_g (lw_at lw_m2 196 rfl) rfl
theorem q583 : (Jvm.Cond.laysFinal "VerbAtDusk" "VerbAtDusk" "kept" "[LVerbAtDusk$State;") ∈ lw_all := lw_g (lw_at lw_m2 197 rfl) rfl
theorem q584 : (Jvm.Cond.soleField "VerbAtDusk" "kept") ∈ lw_all := lw_g (lw_at lw_m2 198 rfl) rfl
theorem q585 : (Jvm.Cond.lays "VerbAtDusk" "VerbAtDusk" "undos" "I") ∈ lw_all := lw_g (lw_at lw_m2 199 rfl) rfl
theorem q586 : (Jvm.Cond.soleField "VerbAtDusk" "undos") ∈ lw_all := lw_g (lw_at lw_m2 200 rfl) rfl
theorem q587 : (Jvm.Cond.lays "VerbAtDusk" "VerbAtDusk" "seeds" "J") ∈ lw_all := lw_g (lw_at lw_m2 201 rfl) rfl
theorem q588 : (Jvm.Cond.soleField "VerbAtDusk" "seeds") ∈ lw_all := lw_g (lw_at lw_m2 202 rfl) rfl
theorem q589 : (Jvm.Cond.lays "VerbAtDusk" "VerbAtDusk" "askedSaying" "I") ∈ lw_all := lw_g (lw_at lw_m2 203 rfl) rfl
theorem q590 : (Jvm.Cond.soleField "VerbAtDusk" "askedSaying") ∈ lw_all := lw_g (lw_at lw_m2 204 rfl) rfl
theorem q591 : (Jvm.Cond.laysFinal "VerbAtDusk" "VerbAtDusk" "out" "[B") ∈ lw_all := lw_g (lw_at lw_m2 205 rfl) rfl
theorem q592 : (Jvm.Cond.soleField "VerbAtDusk" "out") ∈ lw_all := lw_g (lw_at lw_m2 206 rfl) rfl
theorem q593 : (Jvm.Cond.lays "VerbAtDusk" "VerbAtDusk" "outs" "I") ∈ lw_all := lw_g (lw_at lw_m2 207 rfl) rfl
theorem q594 : (Jvm.Cond.soleField "VerbAtDusk" "outs") ∈ lw_all := lw_g (lw_at lw_m2 208 rfl) rfl
theorem q595 : (Jvm.Cond.superclass "VerbAtDusk" "java/lang/Object") ∈ lw_all := lw_g (lw_at lw_m2 209 rfl) rfl
theorem q597 : (Jvm.Cond.instanceMethod ({ cls := "VerbAtDusk", name := "feed", desc := "(IIIII)I" } : Jvm.MethodName)) ∈ lw_all := lw_g (lw_at lw_m2 211 rfl) rfl
theorem q598 : (Jvm.Cond.selects "VerbAtDusk" ({ cls := "VerbAtDusk", name := "feed", desc := "(IIIII)I" } : Jvm.MethodName) ({ cls := "VerbAtDusk", name := "feed", desc := "(IIIII)I" } : Jvm.MethodName)) ∈ lw_all := lw_g (lw_at lw_m2 212 rfl) rfl
theorem q599 : (Jvm.Cond.code ({ cls := "VerbAtDusk", name := "feed", desc := "(IIIII)I" } : Jvm.MethodName) prog_1_method_10_code (6 : Nat) (Option.some Jvm.ClassFile.FieldType.int)) ∈ lw_all := lw_g (lw_at lw_m2 213 rfl) rfl
theorem q600 : (Jvm.Cond.methodLink "VerbAtDusk" (118 : Nat) ({ cls := "VerbAtDusk", name := "refuses", desc := "(I)I" } : Jvm.MethodName)) ∈ lw_all := lw_g (lw_at lw_m2 214 rfl) rfl
theorem q601 : (Jvm.Cond.privateMethod ({ cls := "VerbAtDusk", name := "refuses", desc := "(I)I" } : Jvm.MethodName)) ∈ lw_tbl := lw_at lw_m2 215 rfl
theorem q602 : (Jvm.Cond.instanceMethod ({ cls := "VerbAtDusk", name := "refuses", desc := "(I)I" } : Jvm.MethodName)) ∈ lw_all := lw_g (lw_at lw_m2 216 rfl) rfl
theorem q603 : (Jvm.Cond.code ({ cls := "VerbAtDusk", name := "refuses", desc := "(I)I" } : Jvm.MethodName) prog_1_method_8_code (2 : Nat) (Option.some Jvm.ClassFile.FieldType.int)) ∈ lw_all := lw_g (lw_at lw_m2 217 rfl) rfl
theorem q604 : (Jvm.Cond.methodLink "VerbAtDusk" (122 : Nat) ({ cls := "VerbAtDusk", name := "put", desc := "(I)V" } : Jvm.MethodName)) ∈ lw_all := lw_g (lw_at lw_m2 218 rfl) rfl
theorem q605 : (Jvm.Cond.privateMethod ({ cls := "VerbAtDusk", name := "put", desc := "(I)V" } : Jvm.MethodName)) ∈ lw_tbl := lw_at lw_m2 219 rfl
theorem q606 : (Jvm.Cond.instanceMethod ({ cls := "VerbAtDusk", name := "put", desc := "(I)V" } : Jvm.MethodName)) ∈ lw_all := lw_g (lw_at lw_m2 220 rfl) rfl
theorem q607 : (Jvm.Cond.code ({ cls := "VerbAtDusk", name := "put", desc := "(I)V" } : Jvm.MethodName) prog_1_method_9_code (3 : Nat) (Option.none : Option Jvm.ClassFile.FieldType)) ∈ lw_all := lw_g (lw_at lw_m2 221 rfl) rfl
theorem q609 : (Jvm.Cond.instanceMethod ({ cls := "VerbAtDusk", name := "end", desc := "(I)Z" } : Jvm.MethodName)) ∈ lw_all := lw_g (lw_at lw_m2 223 rfl) rfl
theorem q610 : (Jvm.Cond.selects "VerbAtDusk" ({ cls := "VerbAtDusk", name := "end", desc := "(I)Z" } : Jvm.MethodName) ({ cls := "VerbAtDusk", name := "end", desc := "(I)Z" } : Jvm.MethodName)) ∈ lw_all := lw_g (lw_at lw_m2 224 rfl) rfl
theorem q611 : (Jvm.Cond.code ({ cls := "VerbAtDusk", name := "end", desc := "(I)Z" } : Jvm.MethodName) prog_1_method_11_code (2 : Nat) (Option.some Jvm.ClassFile.FieldType.boolean)) ∈ lw_all := lw_g (lw_at lw_m2 225 rfl) rfl
theorem q613 : (Jvm.Cond.instanceMethod ({ cls := "VerbAtDusk", name := "country", desc := "()I" } : Jvm.MethodName)) ∈ lw_all := lw_g (lw_at lw_m2 227 rfl) rfl
theorem q614 : (Jvm.Cond.selects "VerbAtDusk" ({ cls := "VerbAtDusk", name := "country", desc := "()I" } : Jvm.MethodName) ({ cls := "VerbAtDusk", name := "country", desc := "()I" } : Jvm.MethodName)) ∈ lw_all := lw_g (lw_at lw_m2 228 rfl) rfl
theorem q615 : (Jvm.Cond.codeWith ({ cls := "VerbAtDusk", name := "country", desc := "()I" } : Jvm.MethodName) prog_1_method_13_code (2 : Nat) (Option.some Jvm.ClassFile.FieldType.int) [((10 : Nat), (25 : Nat), (28 : Nat), (137 : Nat))]) ∈ lw_all := lw_g (lw_at lw_m2 229 rfl) rfl
theorem q616 : (Jvm.Cond.classLink "VerbAtDusk" (137 : Nat) "VerbAtDusk$Fault") ∈ lw_all := lw_g (lw_at lw_m2 230 rfl) rfl
theorem q617 : (Jvm.Cond.methodLink "VerbAtDusk" (129 : Nat) ({ cls := "VerbAtDusk", name := "taken", desc := "()I" } : Jvm.MethodName)) ∈ lw_all := lw_g (lw_at lw_m2 231 rfl) rfl
theorem q618 : (Jvm.Cond.privateMethod ({ cls := "VerbAtDusk", name := "taken", desc := "()I" } : Jvm.MethodName)) ∈ lw_tbl := lw_at lw_m2 232 rfl
theorem q619 : (Jvm.Cond.instanceMethod ({ cls := "VerbAtDusk", name := "taken", desc := "()I" } : Jvm.MethodName)) ∈ lw_all := lw_g (lw_at lw_m2 233 rfl) rfl
theorem q620 : (Jvm.Cond.code ({ cls := "VerbAtDusk", name := "taken", desc := "()I" } : Jvm.MethodName) prog_1_method_12_code (2 : Nat) (Option.some Jvm.ClassFile.FieldType.int)) ∈ lw_all := lw_g (lw_at lw_m2 234 rfl) rfl
theorem q621 : (Jvm.Cond.methodLink "VerbAtDusk" (133 : Nat) ({ cls := "VerbAtDusk$Reader", name := "all", desc := "(I)LVerbAtDusk$Country;" } : Jvm.MethodName)) ∈ lw_all := lw_g (lw_at lw_m2 235 rfl) rfl
theorem q645 : (Jvm.Cond.static ({ cls := "VerbAtDusk", name := "isLetter", desc := "(I)Z" } : Jvm.MethodName)) ∈ lw_all := lw_g (lw_at lw_m3 19 rfl) rfl
theorem q646 : (Jvm.Cond.code ({ cls := "VerbAtDusk", name := "isLetter", desc := "(I)Z" } : Jvm.MethodName) prog_1_method_4_code (1 : Nat) (Option.some Jvm.ClassFile.FieldType.boolean)) ∈ lw_all := lw_g (lw_at lw_m3 20 rfl) rfl
theorem q656 : (Jvm.Cond.static ({ cls := "VerbAtDusk", name := "isDigit", desc := "(I)Z" } : Jvm.MethodName)) ∈ lw_all := lw_g (lw_at lw_m3 30 rfl) rfl
theorem q657 : (Jvm.Cond.code ({ cls := "VerbAtDusk", name := "isDigit", desc := "(I)Z" } : Jvm.MethodName) prog_1_method_5_code (1 : Nat) (Option.some Jvm.ClassFile.FieldType.boolean)) ∈ lw_all := lw_g (lw_at lw_m3 31 rfl) rfl
theorem q748 : (Jvm.Cond.static ({ cls := "VerbAtDusk", name := "is", desc := "(III)Z" } : Jvm.MethodName)) ∈ lw_all := lw_g (lw_at lw_m3 122 rfl) rfl
theorem q749 : (Jvm.Cond.code ({ cls := "VerbAtDusk", name := "is", desc := "(III)Z" } : Jvm.MethodName) prog_1_method_1_code (3 : Nat) (Option.some Jvm.ClassFile.FieldType.boolean)) ∈ lw_all := lw_g (lw_at lw_m3 123 rfl) rfl
theorem q837 : (Jvm.Cond.laysStatic "VerbAtDusk" "OWN" "[Ljava/lang/String;") ∈ lw_tbl := lw_at lw_m3 211 rfl
theorem q839 : (Jvm.Cond.static ({ cls := "VerbAtDusk", name := "find", desc := "(Ljava/lang/String;[Ljava/lang/String;)I" } : Jvm.MethodName)) ∈ lw_all := lw_g (lw_at lw_m3 213 rfl) rfl
theorem q840 : (Jvm.Cond.code ({ cls := "VerbAtDusk", name := "find", desc := "(Ljava/lang/String;[Ljava/lang/String;)I" } : Jvm.MethodName) prog_1_method_6_code (3 : Nat) (Option.some Jvm.ClassFile.FieldType.int)) ∈ lw_all := lw_g (lw_at lw_m3 214 rfl) rfl
theorem q841 : (Jvm.Cond.methodLink "VerbAtDusk" (16 : Nat) ({ cls := "java/lang/String", name := "equals", desc := "(Ljava/lang/Object;)Z" } : Jvm.MethodName)) ∈ lw_all := lw_g (lw_at lw_m3 215 rfl) rfl
theorem q950 : (Jvm.Cond.selects "VerbAtDusk" ({ cls := "java/lang/Object", name := "getClass", desc := "()Ljava/lang/Class;" } : Jvm.MethodName) ({ cls := "java/lang/Object", name := "getClass", desc := "()Ljava/lang/Class;" } : Jvm.MethodName)) ∈ lw_all := lw_g (lw_at lw_m4 84 rfl) rfl
theorem q998 : (Jvm.Cond.fieldLinkNest "VerbAtDusk" (247 : Nat) "VerbAtDusk$Verb" "kind" "I" "VerbAtDusk") ∈ lw_tbl := lw_at lw_m4 132 rfl
theorem q1001 : (Jvm.Cond.fieldLinkNest "VerbAtDusk" (248 : Nat) "VerbAtDusk$Verb" "mild" "I" "VerbAtDusk") ∈ lw_tbl := lw_at lw_m4 135 rfl
theorem q1010 : (Jvm.Cond.static ({ cls := "VerbAtDusk", name := "has", desc := "(II)Z" } : Jvm.MethodName)) ∈ lw_all := lw_g (lw_at lw_m4 144 rfl) rfl
theorem q1011 : (Jvm.Cond.code ({ cls := "VerbAtDusk", name := "has", desc := "(II)Z" } : Jvm.MethodName) prog_1_method_2_code (2 : Nat) (Option.some Jvm.ClassFile.FieldType.boolean)) ∈ lw_all := lw_g (lw_at lw_m4 145 rfl) rfl
theorem q1162 : (Jvm.Cond.laysStatic "VerbAtDusk" "ASKED" "[Ljava/lang/String;") ∈ lw_tbl := lw_at lw_m5 56 rfl
theorem q1174 : (Jvm.Cond.laysStatic "VerbAtDusk" "LOOKED" "[Ljava/lang/String;") ∈ lw_tbl := lw_at lw_m5 68 rfl
theorem q1284 : (Jvm.Cond.methodLink "VerbAtDusk" (145 : Nat) ({ cls := "VerbAtDusk$State", name := "begins", desc := "()V" } : Jvm.MethodName)) ∈ lw_all := lw_g (lw_at lw_m5 178 rfl) rfl
theorem q1289 : (Jvm.Cond.privateMethod ({ cls := "VerbAtDusk", name := "sayings", desc := "()I" } : Jvm.MethodName)) ∈ lw_tbl := lw_at lw_m5 183 rfl
theorem q1290 : (Jvm.Cond.instanceMethod ({ cls := "VerbAtDusk", name := "sayings", desc := "()I" } : Jvm.MethodName)) ∈ lw_all := lw_g (lw_at lw_m5 184 rfl) rfl
theorem q1291 : (Jvm.Cond.code ({ cls := "VerbAtDusk", name := "sayings", desc := "()I" } : Jvm.MethodName) prog_1_method_16_code (1 : Nat) (Option.some Jvm.ClassFile.FieldType.int)) ∈ lw_all := lw_g (lw_at lw_m5 185 rfl) rfl
theorem q1292 : (Jvm.Cond.interfaceEntry "VerbAtDusk" (161 : Nat)) ∈ lw_tbl := lw_at lw_m5 186 rfl
theorem q1293 : (Jvm.Cond.methodLink "VerbAtDusk" (161 : Nat) ({ cls := "java/util/List", name := "size", desc := "()I" } : Jvm.MethodName)) ∈ lw_all := lw_g (lw_at lw_m5 187 rfl) rfl
theorem q1298 : (Jvm.Cond.instanceMethod ({ cls := "VerbAtDusk", name := "fault", desc := "(I)I" } : Jvm.MethodName)) ∈ lw_all := lw_g (lw_at lw_m5 192 rfl) rfl
theorem q1299 : (Jvm.Cond.selects "VerbAtDusk" ({ cls := "VerbAtDusk", name := "fault", desc := "(I)I" } : Jvm.MethodName) ({ cls := "VerbAtDusk", name := "fault", desc := "(I)I" } : Jvm.MethodName)) ∈ lw_all := lw_g (lw_at lw_m5 193 rfl) rfl
theorem q1300 : (Jvm.Cond.code ({ cls := "VerbAtDusk", name := "fault", desc := "(I)I" } : Jvm.MethodName) prog_1_method_14_code (2 : Nat) (Option.some Jvm.ClassFile.FieldType.int)) ∈ lw_all := lw_g (lw_at lw_m5 194 rfl) rfl
theorem q1302 : (Jvm.Cond.instanceMethod ({ cls := "VerbAtDusk", name := "has", desc := "(I)I" } : Jvm.MethodName)) ∈ lw_all := lw_g (lw_at lw_m5 196 rfl) rfl
theorem q1303 : (Jvm.Cond.selects "VerbAtDusk" ({ cls := "VerbAtDusk", name := "has", desc := "(I)I" } : Jvm.MethodName) ({ cls := "VerbAtDusk", name := "has", desc := "(I)I" } : Jvm.MethodName)) ∈ lw_all := lw_g (lw_at lw_m5 197 rfl) rfl
theorem q1304 : (Jvm.Cond.code ({ cls := "VerbAtDusk", name := "has", desc := "(I)I" } : Jvm.MethodName) prog_1_method_20_code (5 : Nat) (Option.some Jvm.ClassFile.FieldType.int)) ∈ lw_all := lw_g (lw_at lw_m5 198 rfl) rfl
theorem q1305 : (Jvm.Cond.methodLink "VerbAtDusk" (169 : Nat) ({ cls := "VerbAtDusk", name := "sayings", desc := "()I" } : Jvm.MethodName)) ∈ lw_all := lw_g (lw_at lw_m5 199 rfl) rfl
theorem q1306 : (Jvm.Cond.methodLink "VerbAtDusk" (171 : Nat) ({ cls := "VerbAtDusk", name := "verbs", desc := "()I" } : Jvm.MethodName)) ∈ lw_all := lw_g (lw_at lw_m5 200 rfl) rfl
theorem q1307 : (Jvm.Cond.privateMethod ({ cls := "VerbAtDusk", name := "verbs", desc := "()I" } : Jvm.MethodName)) ∈ lw_tbl := lw_at lw_m5 201 rfl
theorem q1308 : (Jvm.Cond.instanceMethod ({ cls := "VerbAtDusk", name := "verbs", desc := "()I" } : Jvm.MethodName)) ∈ lw_all := lw_g (lw_at lw_m5 202 rfl) rfl
theorem q1309 : (Jvm.Cond.code ({ cls := "VerbAtDusk", name := "verbs", desc := "()I" } : Jvm.MethodName) prog_1_method_17_code (1 : Nat) (Option.some Jvm.ClassFile.FieldType.int)) ∈ lw_all := lw_g (lw_at lw_m5 203 rfl) rfl
theorem q1310 : (Jvm.Cond.methodLink "VerbAtDusk" (182 : Nat) ({ cls := "java/lang/Integer", name := "bitCount", desc := "(I)I" } : Jvm.MethodName)) ∈ lw_all := lw_g (lw_at lw_m5 204 rfl) rfl
theorem q1317 : (Jvm.Cond.instanceMethod ({ cls := "VerbAtDusk", name := "letter", desc := "(III)I" } : Jvm.MethodName)) ∈ lw_all := lw_g (lw_at lw_m5 211 rfl) rfl
theorem q1318 : (Jvm.Cond.selects "VerbAtDusk" ({ cls := "VerbAtDusk", name := "letter", desc := "(III)I" } : Jvm.MethodName) ({ cls := "VerbAtDusk", name := "letter", desc := "(III)I" } : Jvm.MethodName)) ∈ lw_all := lw_g (lw_at lw_m5 212 rfl) rfl
theorem q1319 : (Jvm.Cond.code ({ cls := "VerbAtDusk", name := "letter", desc := "(III)I" } : Jvm.MethodName) prog_1_method_21_code (5 : Nat) (Option.some Jvm.ClassFile.FieldType.int)) ∈ lw_all := lw_g (lw_at lw_m5 213 rfl) rfl
theorem q1320 : (Jvm.Cond.methodLink "VerbAtDusk" (193 : Nat) ({ cls := "VerbAtDusk", name := "is", desc := "(III)Z" } : Jvm.MethodName)) ∈ lw_all := lw_g (lw_at lw_m5 214 rfl) rfl
theorem q1321 : (Jvm.Cond.interfaceEntry "VerbAtDusk" (197 : Nat)) ∈ lw_tbl := lw_at lw_m5 215 rfl
theorem q1322 : (Jvm.Cond.methodLink "VerbAtDusk" (197 : Nat) ({ cls := "java/util/List", name := "get", desc := "(I)Ljava/lang/Object;" } : Jvm.MethodName)) ∈ lw_all := lw_g (lw_at lw_m5 216 rfl) rfl
theorem q1323 : (Jvm.Cond.classLink "VerbAtDusk" (201 : Nat) "VerbAtDusk$Named") ∈ lw_all := lw_g (lw_at lw_m5 217 rfl) rfl
theorem q1324 : (Jvm.Cond.methodLink "VerbAtDusk" (203 : Nat) ({ cls := "VerbAtDusk$Named", name := "letter", desc := "(I)I" } : Jvm.MethodName)) ∈ lw_all := lw_g (lw_at lw_m5 218 rfl) rfl
theorem q1343 : (Jvm.Cond.instanceMethod ({ cls := "VerbAtDusk", name := "saying", desc := "(II)I" } : Jvm.MethodName)) ∈ lw_all := lw_g (lw_at lw_m5 237 rfl) rfl
theorem q1344 : (Jvm.Cond.selects "VerbAtDusk" ({ cls := "VerbAtDusk", name := "saying", desc := "(II)I" } : Jvm.MethodName) ({ cls := "VerbAtDusk", name := "saying", desc := "(II)I" } : Jvm.MethodName)) ∈ lw_all := lw_g (lw_at lw_m5 238 rfl) rfl
theorem q1345 : (Jvm.Cond.code ({ cls := "VerbAtDusk", name := "saying", desc := "(II)I" } : Jvm.MethodName) prog_1_method_23_code (3 : Nat) (Option.some Jvm.ClassFile.FieldType.int)) ∈ lw_all := lw_g (lw_at lw_m5 239 rfl) rfl
theorem q1346 : (Jvm.Cond.methodLink "VerbAtDusk" (216 : Nat) ({ cls := "VerbAtDusk", name := "isSaying", desc := "(I)Z" } : Jvm.MethodName)) ∈ lw_all := lw_g (lw_at lw_m6 0 rfl) rfl
theorem q1347 : (Jvm.Cond.privateMethod ({ cls := "VerbAtDusk", name := "isSaying", desc := "(I)Z" } : Jvm.MethodName)) ∈ lw_tbl := lw_at lw_m6 1 rfl
theorem q1348 : (Jvm.Cond.instanceMethod ({ cls := "VerbAtDusk", name := "isSaying", desc := "(I)Z" } : Jvm.MethodName)) ∈ lw_all := lw_g (lw_at lw_m6 2 rfl) rfl
theorem q1349 : (Jvm.Cond.code ({ cls := "VerbAtDusk", name := "isSaying", desc := "(I)Z" } : Jvm.MethodName) prog_1_method_18_code (2 : Nat) (Option.some Jvm.ClassFile.FieldType.boolean)) ∈ lw_all := lw_g (lw_at lw_m6 3 rfl) rfl
theorem q1350 : (Jvm.Cond.methodLink "VerbAtDusk" (229 : Nat) ({ cls := "VerbAtDusk", name := "gets", desc := "(I)I" } : Jvm.MethodName)) ∈ lw_all := lw_g (lw_at lw_m6 4 rfl) rfl
theorem q1351 : (Jvm.Cond.privateMethod ({ cls := "VerbAtDusk", name := "gets", desc := "(I)I" } : Jvm.MethodName)) ∈ lw_tbl := lw_at lw_m6 5 rfl
theorem q1352 : (Jvm.Cond.instanceMethod ({ cls := "VerbAtDusk", name := "gets", desc := "(I)I" } : Jvm.MethodName)) ∈ lw_all := lw_g (lw_at lw_m6 6 rfl) rfl
theorem q1353 : (Jvm.Cond.code ({ cls := "VerbAtDusk", name := "gets", desc := "(I)I" } : Jvm.MethodName) prog_1_method_22_code (2 : Nat) (Option.some Jvm.ClassFile.FieldType.int)) ∈ lw_all := lw_g (lw_at lw_m6 7 rfl) rfl
theorem q1354 : (Jvm.Cond.methodLink "VerbAtDusk" (206 : Nat) ({ cls := "VerbAtDusk$Giving", name := "by", desc := "(LVerbAtDusk$State;)LVerbAtDusk$Giving;" } : Jvm.MethodName)) ∈ lw_all := lw_g (lw_at lw_m6 8 rfl) rfl
theorem q1396 : (Jvm.Cond.static ({ cls := "VerbAtDusk", name := "held", desc := "(J)J" } : Jvm.MethodName)) ∈ lw_all := lw_g (lw_at lw_m6 50 rfl) rfl
theorem q1397 : (Jvm.Cond.code ({ cls := "VerbAtDusk", name := "held", desc := "(J)J" } : Jvm.MethodName) prog_1_method_3_code (2 : Nat) (Option.some Jvm.ClassFile.FieldType.long)) ∈ lw_all := lw_g (lw_at lw_m6 51 rfl) rfl
theorem q1398 : (Jvm.Cond.constantLong "VerbAtDusk" (3 : Nat) (-1000000 : Int64)) ∈ lw_all := lw_g (lw_at lw_m6 52 rfl) rfl
theorem q1399 : (Jvm.Cond.constantLong "VerbAtDusk" (5 : Nat) (1000000 : Int64)) ∈ lw_all := lw_g (lw_at lw_m6 53 rfl) rfl
theorem q1400 : (Jvm.Cond.methodLink "VerbAtDusk" (7 : Nat) ({ cls := "java/lang/Math", name := "min", desc := "(JJ)J" } : Jvm.MethodName)) ∈ lw_all := lw_g (lw_at lw_m6 54 rfl) rfl
theorem q1403 : (Jvm.Cond.methodLink "VerbAtDusk" (13 : Nat) ({ cls := "java/lang/Math", name := "max", desc := "(JJ)J" } : Jvm.MethodName)) ∈ lw_all := lw_g (lw_at lw_m6 57 rfl) rfl
theorem q1422 : (Jvm.Cond.privateMethod ({ cls := "VerbAtDusk", name := "looked", desc := "(IJ)J" } : Jvm.MethodName)) ∈ lw_tbl := lw_at lw_m6 76 rfl
theorem q1423 : (Jvm.Cond.instanceMethod ({ cls := "VerbAtDusk", name := "looked", desc := "(IJ)J" } : Jvm.MethodName)) ∈ lw_all := lw_g (lw_at lw_m6 77 rfl) rfl
theorem q1424 : (Jvm.Cond.code ({ cls := "VerbAtDusk", name := "looked", desc := "(IJ)J" } : Jvm.MethodName) prog_1_method_53_code (4 : Nat) (Option.some Jvm.ClassFile.FieldType.long)) ∈ lw_all := lw_g (lw_at lw_m6 78 rfl) rfl
theorem q1425 : (Jvm.Cond.methodLink "VerbAtDusk" (254 : Nat) ({ cls := "VerbAtDusk$State", name := "well", desc := "(II)J" } : Jvm.MethodName)) ∈ lw_all := lw_g (lw_at lw_m6 79 rfl) rfl
theorem q1470 : (Jvm.Cond.methodLink "VerbAtDusk" (232 : Nat) ({ cls := "VerbAtDusk$Walk", name := "by", desc := "(LVerbAtDusk$State;)LVerbAtDusk$Walk;" } : Jvm.MethodName)) ∈ lw_all := lw_g (lw_at lw_m6 124 rfl) rfl
theorem q1484 : (Jvm.Cond.methodLink "VerbAtDusk" (235 : Nat) ({ cls := "VerbAtDusk$Walk", name := "dark", desc := "()I" } : Jvm.MethodName)) ∈ lw_all := lw_g (lw_at lw_m6 138 rfl) rfl
theorem q1488 : (Jvm.Cond.methodLink "VerbAtDusk" (238 : Nat) ({ cls := "VerbAtDusk", name := "has", desc := "(II)Z" } : Jvm.MethodName)) ∈ lw_all := lw_g (lw_at lw_m6 142 rfl) rfl
theorem q1490 : (Jvm.Cond.instanceMethod ({ cls := "VerbAtDusk", name := "verb", desc := "(II)I" } : Jvm.MethodName)) ∈ lw_all := lw_g (lw_at lw_m6 144 rfl) rfl
theorem q1491 : (Jvm.Cond.selects "VerbAtDusk" ({ cls := "VerbAtDusk", name := "verb", desc := "(II)I" } : Jvm.MethodName) ({ cls := "VerbAtDusk", name := "verb", desc := "(II)I" } : Jvm.MethodName)) ∈ lw_all := lw_g (lw_at lw_m6 145 rfl) rfl
theorem q1492 : (Jvm.Cond.code ({ cls := "VerbAtDusk", name := "verb", desc := "(II)I" } : Jvm.MethodName) prog_1_method_24_code (4 : Nat) (Option.some Jvm.ClassFile.FieldType.int)) ∈ lw_all := lw_g (lw_at lw_m6 146 rfl) rfl
theorem q1493 : (Jvm.Cond.methodLink "VerbAtDusk" (242 : Nat) ({ cls := "VerbAtDusk", name := "isVerb", desc := "(I)Z" } : Jvm.MethodName)) ∈ lw_all := lw_g (lw_at lw_m6 147 rfl) rfl
theorem q1494 : (Jvm.Cond.privateMethod ({ cls := "VerbAtDusk", name := "isVerb", desc := "(I)Z" } : Jvm.MethodName)) ∈ lw_tbl := lw_at lw_m6 148 rfl
theorem q1495 : (Jvm.Cond.instanceMethod ({ cls := "VerbAtDusk", name := "isVerb", desc := "(I)Z" } : Jvm.MethodName)) ∈ lw_all := lw_g (lw_at lw_m6 149 rfl) rfl
theorem q1496 : (Jvm.Cond.code ({ cls := "VerbAtDusk", name := "isVerb", desc := "(I)Z" } : Jvm.MethodName) prog_1_method_19_code (2 : Nat) (Option.some Jvm.ClassFile.FieldType.boolean)) ∈ lw_all := lw_g (lw_at lw_m6 150 rfl) rfl
theorem q1497 : (Jvm.Cond.classLink "VerbAtDusk" (245 : Nat) "VerbAtDusk$Verb") ∈ lw_all := lw_g (lw_at lw_m6 151 rfl) rfl
theorem q1499 : (Jvm.Cond.instanceMethod ({ cls := "VerbAtDusk", name := "pair", desc := "(III)I" } : Jvm.MethodName)) ∈ lw_all := lw_g (lw_at lw_m6 153 rfl) rfl
theorem q1500 : (Jvm.Cond.selects "VerbAtDusk" ({ cls := "VerbAtDusk", name := "pair", desc := "(III)I" } : Jvm.MethodName) ({ cls := "VerbAtDusk", name := "pair", desc := "(III)I" } : Jvm.MethodName)) ∈ lw_all := lw_g (lw_at lw_m6 154 rfl) rfl
theorem q1501 : (Jvm.Cond.code ({ cls := "VerbAtDusk", name := "pair", desc := "(III)I" } : Jvm.MethodName) prog_1_method_25_code (4 : Nat) (Option.some Jvm.ClassFile.FieldType.int)) ∈ lw_all := lw_g (lw_at lw_m6 155 rfl) rfl
theorem q1502 : (Jvm.Cond.methodLink "VerbAtDusk" (251 : Nat) ({ cls := "VerbAtDusk$State", name := "can", desc := "(II)Z" } : Jvm.MethodName)) ∈ lw_all := lw_g (lw_at lw_m6 156 rfl) rfl
theorem q1504 : (Jvm.Cond.instanceMethod ({ cls := "VerbAtDusk", name := "well", desc := "(II)J" } : Jvm.MethodName)) ∈ lw_all := lw_g (lw_at lw_m6 158 rfl) rfl
theorem q1505 : (Jvm.Cond.selects "VerbAtDusk" ({ cls := "VerbAtDusk", name := "well", desc := "(II)J" } : Jvm.MethodName) ({ cls := "VerbAtDusk", name := "well", desc := "(II)J" } : Jvm.MethodName)) ∈ lw_all := lw_g (lw_at lw_m6 159 rfl) rfl
theorem q1506 : (Jvm.Cond.code ({ cls := "VerbAtDusk", name := "well", desc := "(II)J" } : Jvm.MethodName) prog_1_method_26_code (3 : Nat) (Option.some Jvm.ClassFile.FieldType.long)) ∈ lw_all := lw_g (lw_at lw_m6 160 rfl) rfl
theorem q1507 : (Jvm.Cond.constantLong "VerbAtDusk" (258 : Nat) (-1000000000000000 : Int64)) ∈ lw_all := lw_g (lw_at lw_m6 161 rfl) rfl
theorem q1509 : (Jvm.Cond.instanceMethod ({ cls := "VerbAtDusk", name := "kept", desc := "(II)I" } : Jvm.MethodName)) ∈ lw_all := lw_g (lw_at lw_m6 163 rfl) rfl
theorem q1510 : (Jvm.Cond.selects "VerbAtDusk" ({ cls := "VerbAtDusk", name := "kept", desc := "(II)I" } : Jvm.MethodName) ({ cls := "VerbAtDusk", name := "kept", desc := "(II)I" } : Jvm.MethodName)) ∈ lw_all := lw_g (lw_at lw_m6 164 rfl) rfl
theorem q1511 : (Jvm.Cond.code ({ cls := "VerbAtDusk", name := "kept", desc := "(II)I" } : Jvm.MethodName) prog_1_method_27_code (3 : Nat) (Option.some Jvm.ClassFile.FieldType.int)) ∈ lw_all := lw_g (lw_at lw_m6 165 rfl) rfl
theorem q1513 : (Jvm.Cond.instanceMethod ({ cls := "VerbAtDusk", name := "best", desc := "()J" } : Jvm.MethodName)) ∈ lw_all := lw_g (lw_at lw_m6 167 rfl) rfl
theorem q1514 : (Jvm.Cond.selects "VerbAtDusk" ({ cls := "VerbAtDusk", name := "best", desc := "()J" } : Jvm.MethodName) ({ cls := "VerbAtDusk", name := "best", desc := "()J" } : Jvm.MethodName)) ∈ lw_all := lw_g (lw_at lw_m6 168 rfl) rfl
theorem q1515 : (Jvm.Cond.code ({ cls := "VerbAtDusk", name := "best", desc := "()J" } : Jvm.MethodName) prog_1_method_28_code (1 : Nat) (Option.some Jvm.ClassFile.FieldType.long)) ∈ lw_all := lw_g (lw_at lw_m6 169 rfl) rfl
theorem q1516 : (Jvm.Cond.methodLink "VerbAtDusk" (262 : Nat) ({ cls := "VerbAtDusk", name := "isCountry", desc := "()Z" } : Jvm.MethodName)) ∈ lw_all := lw_g (lw_at lw_m6 170 rfl) rfl
theorem q1517 : (Jvm.Cond.privateMethod ({ cls := "VerbAtDusk", name := "isCountry", desc := "()Z" } : Jvm.MethodName)) ∈ lw_tbl := lw_at lw_m6 171 rfl
theorem q1518 : (Jvm.Cond.instanceMethod ({ cls := "VerbAtDusk", name := "isCountry", desc := "()Z" } : Jvm.MethodName)) ∈ lw_all := lw_g (lw_at lw_m6 172 rfl) rfl
theorem q1519 : (Jvm.Cond.code ({ cls := "VerbAtDusk", name := "isCountry", desc := "()Z" } : Jvm.MethodName) prog_1_method_15_code (1 : Nat) (Option.some Jvm.ClassFile.FieldType.boolean)) ∈ lw_all := lw_g (lw_at lw_m6 173 rfl) rfl
theorem q1521 : (Jvm.Cond.instanceMethod ({ cls := "VerbAtDusk", name := "round", desc := "(I)I" } : Jvm.MethodName)) ∈ lw_all := lw_g (lw_at lw_m6 175 rfl) rfl
theorem q1522 : (Jvm.Cond.selects "VerbAtDusk" ({ cls := "VerbAtDusk", name := "round", desc := "(I)I" } : Jvm.MethodName) ({ cls := "VerbAtDusk", name := "round", desc := "(I)I" } : Jvm.MethodName)) ∈ lw_all := lw_g (lw_at lw_m6 176 rfl) rfl
theorem q1523 : (Jvm.Cond.code ({ cls := "VerbAtDusk", name := "round", desc := "(I)I" } : Jvm.MethodName) prog_1_method_29_code (2 : Nat) (Option.some Jvm.ClassFile.FieldType.int)) ∈ lw_all := lw_g (lw_at lw_m6 177 rfl) rfl
theorem q1525 : (Jvm.Cond.instanceMethod ({ cls := "VerbAtDusk", name := "truths", desc := "()I" } : Jvm.MethodName)) ∈ lw_all := lw_g (lw_at lw_m6 179 rfl) rfl
theorem q1526 : (Jvm.Cond.selects "VerbAtDusk" ({ cls := "VerbAtDusk", name := "truths", desc := "()I" } : Jvm.MethodName) ({ cls := "VerbAtDusk", name := "truths", desc := "()I" } : Jvm.MethodName)) ∈ lw_all := lw_g (lw_at lw_m6 180 rfl) rfl
theorem q1527 : (Jvm.Cond.code ({ cls := "VerbAtDusk", name := "truths", desc := "()I" } : Jvm.MethodName) prog_1_method_30_code (5 : Nat) (Option.some Jvm.ClassFile.FieldType.int)) ∈ lw_all := lw_g (lw_at lw_m6 181 rfl) rfl
theorem q1529 : (Jvm.Cond.instanceMethod ({ cls := "VerbAtDusk", name := "needed", desc := "()I" } : Jvm.MethodName)) ∈ lw_all := lw_g (lw_at lw_m6 183 rfl) rfl
theorem q1530 : (Jvm.Cond.selects "VerbAtDusk" ({ cls := "VerbAtDusk", name := "needed", desc := "()I" } : Jvm.MethodName) ({ cls := "VerbAtDusk", name := "needed", desc := "()I" } : Jvm.MethodName)) ∈ lw_all := lw_g (lw_at lw_m6 184 rfl) rfl
theorem q1531 : (Jvm.Cond.code ({ cls := "VerbAtDusk", name := "needed", desc := "()I" } : Jvm.MethodName) prog_1_method_31_code (3 : Nat) (Option.some Jvm.ClassFile.FieldType.int)) ∈ lw_all := lw_g (lw_at lw_m6 185 rfl) rfl
theorem q1532 : (Jvm.Cond.methodLink "VerbAtDusk" (275 : Nat) ({ cls := "VerbAtDusk$State", name := "sack", desc := "()I" } : Jvm.MethodName)) ∈ lw_all := lw_g (lw_at lw_m6 186 rfl) rfl
theorem q1533 : (Jvm.Cond.methodLink "VerbAtDusk" (278 : Nat) ({ cls := "VerbAtDusk$Giving", name := "in", desc := "(I)LVerbAtDusk$Giving;" } : Jvm.MethodName)) ∈ lw_all := lw_g (lw_at lw_m6 187 rfl) rfl
theorem q1535 : (Jvm.Cond.instanceMethod ({ cls := "VerbAtDusk", name := "spilt", desc := "(I)I" } : Jvm.MethodName)) ∈ lw_all := lw_g (lw_at lw_m6 189 rfl) rfl
theorem q1536 : (Jvm.Cond.selects "VerbAtDusk" ({ cls := "VerbAtDusk", name := "spilt", desc := "(I)I" } : Jvm.MethodName) ({ cls := "VerbAtDusk", name := "spilt", desc := "(I)I" } : Jvm.MethodName)) ∈ lw_all := lw_g (lw_at lw_m6 190 rfl) rfl
theorem q1537 : (Jvm.Cond.code ({ cls := "VerbAtDusk", name := "spilt", desc := "(I)I" } : Jvm.MethodName) prog_1_method_32_code (2 : Nat) (Option.some Jvm.ClassFile.FieldType.int)) ∈ lw_all := lw_g (lw_at lw_m6 191 rfl) rfl
theorem q1538 : (Jvm.Cond.methodLink "VerbAtDusk" (282 : Nat) ({ cls := "VerbAtDusk$Giving", name := "spilt", desc := "()LVerbAtDusk$Giving;" } : Jvm.MethodName)) ∈ lw_all := lw_g (lw_at lw_m6 192 rfl) rfl
theorem q1548 : (Jvm.Cond.instanceMethod ({ cls := "VerbAtDusk", name := "choose", desc := "(III)J" } : Jvm.MethodName)) ∈ lw_all := lw_g (lw_at lw_m6 202 rfl) rfl
theorem q1549 : (Jvm.Cond.selects "VerbAtDusk" ({ cls := "VerbAtDusk", name := "choose", desc := "(III)J" } : Jvm.MethodName) ({ cls := "VerbAtDusk", name := "choose", desc := "(III)J" } : Jvm.MethodName)) ∈ lw_all := lw_g (lw_at lw_m6 203 rfl) rfl
theorem q1550 : (Jvm.Cond.code ({ cls := "VerbAtDusk", name := "choose", desc := "(III)J" } : Jvm.MethodName) prog_1_method_33_code (6 : Nat) (Option.some Jvm.ClassFile.FieldType.long)) ∈ lw_all := lw_g (lw_at lw_m6 204 rfl) rfl
theorem q1551 : (Jvm.Cond.methodLinkNest "VerbAtDusk" (291 : Nat) ({ cls := "VerbAtDusk$Giving", name := "chooses", desc := "(IIII)J" } : Jvm.MethodName) "VerbAtDusk") ∈ lw_tbl := lw_at lw_m6 205 rfl
theorem q1557 : (Jvm.Cond.instanceMethod ({ cls := "VerbAtDusk", name := "asked", desc := "()I" } : Jvm.MethodName)) ∈ lw_all := lw_g (lw_at lw_m6 211 rfl) rfl
theorem q1558 : (Jvm.Cond.selects "VerbAtDusk" ({ cls := "VerbAtDusk", name := "asked", desc := "()I" } : Jvm.MethodName) ({ cls := "VerbAtDusk", name := "asked", desc := "()I" } : Jvm.MethodName)) ∈ lw_all := lw_g (lw_at lw_m6 212 rfl) rfl
theorem q1559 : (Jvm.Cond.code ({ cls := "VerbAtDusk", name := "asked", desc := "()I" } : Jvm.MethodName) prog_1_method_34_code (4 : Nat) (Option.some Jvm.ClassFile.FieldType.int)) ∈ lw_all := lw_g (lw_at lw_m6 213 rfl) rfl
theorem q1560 : (Jvm.Cond.methodLink "VerbAtDusk" (295 : Nat) ({ cls := "VerbAtDusk$State", name := "copy", desc := "(LVerbAtDusk$State;)LVerbAtDusk$State;" } : Jvm.MethodName)) ∈ lw_all := lw_g (lw_at lw_m6 214 rfl) rfl
theorem q1565 : (Jvm.Cond.instanceMethod ({ cls := "VerbAtDusk", name := "later", desc := "(II)I" } : Jvm.MethodName)) ∈ lw_all := lw_g (lw_at lw_m6 219 rfl) rfl
theorem q1566 : (Jvm.Cond.selects "VerbAtDusk" ({ cls := "VerbAtDusk", name := "later", desc := "(II)I" } : Jvm.MethodName) ({ cls := "VerbAtDusk", name := "later", desc := "(II)I" } : Jvm.MethodName)) ∈ lw_all := lw_g (lw_at lw_m6 220 rfl) rfl
theorem q1567 : (Jvm.Cond.code ({ cls := "VerbAtDusk", name := "later", desc := "(II)I" } : Jvm.MethodName) prog_1_method_36_code (4 : Nat) (Option.some Jvm.ClassFile.FieldType.int)) ∈ lw_all := lw_g (lw_at lw_m6 221 rfl) rfl
theorem q1568 : (Jvm.Cond.methodLink "VerbAtDusk" (299 : Nat) ({ cls := "VerbAtDusk", name := "isAhead", desc := "(III)Z" } : Jvm.MethodName)) ∈ lw_all := lw_g (lw_at lw_m6 222 rfl) rfl
theorem q1569 : (Jvm.Cond.privateMethod ({ cls := "VerbAtDusk", name := "isAhead", desc := "(III)Z" } : Jvm.MethodName)) ∈ lw_tbl := lw_at lw_m6 223 rfl
theorem q1570 : (Jvm.Cond.instanceMethod ({ cls := "VerbAtDusk", name := "isAhead", desc := "(III)Z" } : Jvm.MethodName)) ∈ lw_all := lw_g (lw_at lw_m6 224 rfl) rfl
theorem q1571 : (Jvm.Cond.code ({ cls := "VerbAtDusk", name := "isAhead", desc := "(III)Z" } : Jvm.MethodName) prog_1_method_35_code (4 : Nat) (Option.some Jvm.ClassFile.FieldType.boolean)) ∈ lw_all := lw_g (lw_at lw_m6 225 rfl) rfl
theorem q1572 : (Jvm.Cond.methodLink "VerbAtDusk" (302 : Nat) ({ cls := "VerbAtDusk$State", name := "passes", desc := "()I" } : Jvm.MethodName)) ∈ lw_all := lw_g (lw_at lw_m6 226 rfl) rfl
theorem q1593 : (Jvm.Cond.instanceMethod ({ cls := "VerbAtDusk", name := "tone", desc := "(II)I" } : Jvm.MethodName)) ∈ lw_all := lw_g (lw_at lw_m7 7 rfl) rfl
theorem q1594 : (Jvm.Cond.selects "VerbAtDusk" ({ cls := "VerbAtDusk", name := "tone", desc := "(II)I" } : Jvm.MethodName) ({ cls := "VerbAtDusk", name := "tone", desc := "(II)I" } : Jvm.MethodName)) ∈ lw_all := lw_g (lw_at lw_m7 8 rfl) rfl
theorem q1595 : (Jvm.Cond.code ({ cls := "VerbAtDusk", name := "tone", desc := "(II)I" } : Jvm.MethodName) prog_1_method_37_code (4 : Nat) (Option.some Jvm.ClassFile.FieldType.int)) ∈ lw_all := lw_g (lw_at lw_m7 9 rfl) rfl
theorem q1597 : (Jvm.Cond.instanceMethod ({ cls := "VerbAtDusk", name := "mute", desc := "()I" } : Jvm.MethodName)) ∈ lw_all := lw_g (lw_at lw_m7 11 rfl) rfl
theorem q1598 : (Jvm.Cond.selects "VerbAtDusk" ({ cls := "VerbAtDusk", name := "mute", desc := "()I" } : Jvm.MethodName) ({ cls := "VerbAtDusk", name := "mute", desc := "()I" } : Jvm.MethodName)) ∈ lw_all := lw_g (lw_at lw_m7 12 rfl) rfl
theorem q1599 : (Jvm.Cond.code ({ cls := "VerbAtDusk", name := "mute", desc := "()I" } : Jvm.MethodName) prog_1_method_38_code (2 : Nat) (Option.some Jvm.ClassFile.FieldType.int)) ∈ lw_all := lw_g (lw_at lw_m7 13 rfl) rfl
theorem q1601 : (Jvm.Cond.instanceMethod ({ cls := "VerbAtDusk", name := "see", desc := "()I" } : Jvm.MethodName)) ∈ lw_all := lw_g (lw_at lw_m7 15 rfl) rfl
theorem q1602 : (Jvm.Cond.selects "VerbAtDusk" ({ cls := "VerbAtDusk", name := "see", desc := "()I" } : Jvm.MethodName) ({ cls := "VerbAtDusk", name := "see", desc := "()I" } : Jvm.MethodName)) ∈ lw_all := lw_g (lw_at lw_m7 16 rfl) rfl
theorem q1603 : (Jvm.Cond.code ({ cls := "VerbAtDusk", name := "see", desc := "()I" } : Jvm.MethodName) prog_1_method_40_code (4 : Nat) (Option.some Jvm.ClassFile.FieldType.int)) ∈ lw_all := lw_g (lw_at lw_m7 17 rfl) rfl
theorem q1604 : (Jvm.Cond.methodLink "VerbAtDusk" (307 : Nat) ({ cls := "VerbAtDusk", name := "byteAt", desc := "(I)I" } : Jvm.MethodName)) ∈ lw_all := lw_g (lw_at lw_m7 18 rfl) rfl
theorem q1605 : (Jvm.Cond.privateMethod ({ cls := "VerbAtDusk", name := "byteAt", desc := "(I)I" } : Jvm.MethodName)) ∈ lw_tbl := lw_at lw_m7 19 rfl
theorem q1606 : (Jvm.Cond.instanceMethod ({ cls := "VerbAtDusk", name := "byteAt", desc := "(I)I" } : Jvm.MethodName)) ∈ lw_all := lw_g (lw_at lw_m7 20 rfl) rfl
theorem q1607 : (Jvm.Cond.code ({ cls := "VerbAtDusk", name := "byteAt", desc := "(I)I" } : Jvm.MethodName) prog_1_method_39_code (2 : Nat) (Option.some Jvm.ClassFile.FieldType.int)) ∈ lw_all := lw_g (lw_at lw_m7 21 rfl) rfl
theorem q1609 : (Jvm.Cond.instanceMethod ({ cls := "VerbAtDusk", name := "tones", desc := "(I)I" } : Jvm.MethodName)) ∈ lw_all := lw_g (lw_at lw_m7 23 rfl) rfl
theorem q1610 : (Jvm.Cond.selects "VerbAtDusk" ({ cls := "VerbAtDusk", name := "tones", desc := "(I)I" } : Jvm.MethodName) ({ cls := "VerbAtDusk", name := "tones", desc := "(I)I" } : Jvm.MethodName)) ∈ lw_all := lw_g (lw_at lw_m7 24 rfl) rfl
theorem q1611 : (Jvm.Cond.code ({ cls := "VerbAtDusk", name := "tones", desc := "(I)I" } : Jvm.MethodName) prog_1_method_42_code (4 : Nat) (Option.some Jvm.ClassFile.FieldType.int)) ∈ lw_all := lw_g (lw_at lw_m7 25 rfl) rfl
theorem q1612 : (Jvm.Cond.methodLink "VerbAtDusk" (310 : Nat) ({ cls := "VerbAtDusk", name := "canBe", desc := "(II)Z" } : Jvm.MethodName)) ∈ lw_all := lw_g (lw_at lw_m7 26 rfl) rfl
theorem q1613 : (Jvm.Cond.privateMethod ({ cls := "VerbAtDusk", name := "canBe", desc := "(II)Z" } : Jvm.MethodName)) ∈ lw_tbl := lw_at lw_m7 27 rfl
theorem q1614 : (Jvm.Cond.instanceMethod ({ cls := "VerbAtDusk", name := "canBe", desc := "(II)Z" } : Jvm.MethodName)) ∈ lw_all := lw_g (lw_at lw_m7 28 rfl) rfl
theorem q1615 : (Jvm.Cond.code ({ cls := "VerbAtDusk", name := "canBe", desc := "(II)Z" } : Jvm.MethodName) prog_1_method_41_code (6 : Nat) (Option.some Jvm.ClassFile.FieldType.boolean)) ∈ lw_all := lw_g (lw_at lw_m7 29 rfl) rfl
theorem q1617 : (Jvm.Cond.instanceMethod ({ cls := "VerbAtDusk", name := "tells", desc := "(II)I" } : Jvm.MethodName)) ∈ lw_all := lw_g (lw_at lw_m7 31 rfl) rfl
theorem q1618 : (Jvm.Cond.selects "VerbAtDusk" ({ cls := "VerbAtDusk", name := "tells", desc := "(II)I" } : Jvm.MethodName) ({ cls := "VerbAtDusk", name := "tells", desc := "(II)I" } : Jvm.MethodName)) ∈ lw_all := lw_g (lw_at lw_m7 32 rfl) rfl
theorem q1619 : (Jvm.Cond.code ({ cls := "VerbAtDusk", name := "tells", desc := "(II)I" } : Jvm.MethodName) prog_1_method_43_code (11 : Nat) (Option.some Jvm.ClassFile.FieldType.int)) ∈ lw_all := lw_g (lw_at lw_m7 33 rfl) rfl
theorem q1620 : (Jvm.Cond.methodLink "VerbAtDusk" (313 : Nat) ({ cls := "VerbAtDusk", name := "tones", desc := "(I)I" } : Jvm.MethodName)) ∈ lw_all := lw_g (lw_at lw_m7 34 rfl) rfl
theorem q1621 : (Jvm.Cond.constant "VerbAtDusk" (316 : Nat) (100000000 : Int32)) ∈ lw_all := lw_g (lw_at lw_m7 35 rfl) rfl
theorem q1622 : (Jvm.Cond.methodLink "VerbAtDusk" (317 : Nat) ({ cls := "java/lang/Math", name := "max", desc := "(II)I" } : Jvm.MethodName)) ∈ lw_all := lw_g (lw_at lw_m7 36 rfl) rfl
theorem q1624 : (Jvm.Cond.instanceMethod ({ cls := "VerbAtDusk", name := "undo", desc := "()Z" } : Jvm.MethodName)) ∈ lw_all := lw_g (lw_at lw_m7 38 rfl) rfl
theorem q1625 : (Jvm.Cond.selects "VerbAtDusk" ({ cls := "VerbAtDusk", name := "undo", desc := "()Z" } : Jvm.MethodName) ({ cls := "VerbAtDusk", name := "undo", desc := "()Z" } : Jvm.MethodName)) ∈ lw_all := lw_g (lw_at lw_m7 39 rfl) rfl
theorem q1626 : (Jvm.Cond.code ({ cls := "VerbAtDusk", name := "undo", desc := "()Z" } : Jvm.MethodName) prog_1_method_45_code (1 : Nat) (Option.some Jvm.ClassFile.FieldType.boolean)) ∈ lw_all := lw_g (lw_at lw_m7 40 rfl) rfl
theorem q1628 : (Jvm.Cond.instanceMethod ({ cls := "VerbAtDusk", name := "carry", desc := "(III)Z" } : Jvm.MethodName)) ∈ lw_all := lw_g (lw_at lw_m7 42 rfl) rfl
theorem q1629 : (Jvm.Cond.selects "VerbAtDusk" ({ cls := "VerbAtDusk", name := "carry", desc := "(III)Z" } : Jvm.MethodName) ({ cls := "VerbAtDusk", name := "carry", desc := "(III)Z" } : Jvm.MethodName)) ∈ lw_all := lw_g (lw_at lw_m7 43 rfl) rfl
theorem q1630 : (Jvm.Cond.code ({ cls := "VerbAtDusk", name := "carry", desc := "(III)Z" } : Jvm.MethodName) prog_1_method_46_code (4 : Nat) (Option.some Jvm.ClassFile.FieldType.boolean)) ∈ lw_all := lw_g (lw_at lw_m7 44 rfl) rfl
theorem q1631 : (Jvm.Cond.methodLink "VerbAtDusk" (320 : Nat) ({ cls := "VerbAtDusk", name := "keeps", desc := "()V" } : Jvm.MethodName)) ∈ lw_all := lw_g (lw_at lw_m7 45 rfl) rfl
theorem q1632 : (Jvm.Cond.privateMethod ({ cls := "VerbAtDusk", name := "keeps", desc := "()V" } : Jvm.MethodName)) ∈ lw_tbl := lw_at lw_m7 46 rfl
theorem q1633 : (Jvm.Cond.instanceMethod ({ cls := "VerbAtDusk", name := "keeps", desc := "()V" } : Jvm.MethodName)) ∈ lw_all := lw_g (lw_at lw_m7 47 rfl) rfl
theorem q1634 : (Jvm.Cond.code ({ cls := "VerbAtDusk", name := "keeps", desc := "()V" } : Jvm.MethodName) prog_1_method_44_code (3 : Nat) (Option.none : Option Jvm.ClassFile.FieldType)) ∈ lw_all := lw_g (lw_at lw_m7 48 rfl) rfl
theorem q1636 : (Jvm.Cond.instanceMethod ({ cls := "VerbAtDusk", name := "retell", desc := "(II)Z" } : Jvm.MethodName)) ∈ lw_all := lw_g (lw_at lw_m7 50 rfl) rfl
theorem q1637 : (Jvm.Cond.selects "VerbAtDusk" ({ cls := "VerbAtDusk", name := "retell", desc := "(II)Z" } : Jvm.MethodName) ({ cls := "VerbAtDusk", name := "retell", desc := "(II)Z" } : Jvm.MethodName)) ∈ lw_all := lw_g (lw_at lw_m7 51 rfl) rfl
theorem q1638 : (Jvm.Cond.code ({ cls := "VerbAtDusk", name := "retell", desc := "(II)Z" } : Jvm.MethodName) prog_1_method_47_code (3 : Nat) (Option.some Jvm.ClassFile.FieldType.boolean)) ∈ lw_all := lw_g (lw_at lw_m7 52 rfl) rfl
theorem q1640 : (Jvm.Cond.instanceMethod ({ cls := "VerbAtDusk", name := "lend", desc := "(II)Z" } : Jvm.MethodName)) ∈ lw_all := lw_g (lw_at lw_m7 54 rfl) rfl
theorem q1641 : (Jvm.Cond.selects "VerbAtDusk" ({ cls := "VerbAtDusk", name := "lend", desc := "(II)Z" } : Jvm.MethodName) ({ cls := "VerbAtDusk", name := "lend", desc := "(II)Z" } : Jvm.MethodName)) ∈ lw_all := lw_g (lw_at lw_m7 55 rfl) rfl
theorem q1642 : (Jvm.Cond.code ({ cls := "VerbAtDusk", name := "lend", desc := "(II)Z" } : Jvm.MethodName) prog_1_method_48_code (3 : Nat) (Option.some Jvm.ClassFile.FieldType.boolean)) ∈ lw_all := lw_g (lw_at lw_m7 56 rfl) rfl
theorem q1644 : (Jvm.Cond.instanceMethod ({ cls := "VerbAtDusk", name := "days", desc := "(I)I" } : Jvm.MethodName)) ∈ lw_all := lw_g (lw_at lw_m7 58 rfl) rfl
theorem q1645 : (Jvm.Cond.selects "VerbAtDusk" ({ cls := "VerbAtDusk", name := "days", desc := "(I)I" } : Jvm.MethodName) ({ cls := "VerbAtDusk", name := "days", desc := "(I)I" } : Jvm.MethodName)) ∈ lw_all := lw_g (lw_at lw_m7 59 rfl) rfl
theorem q1646 : (Jvm.Cond.code ({ cls := "VerbAtDusk", name := "days", desc := "(I)I" } : Jvm.MethodName) prog_1_method_49_code (4 : Nat) (Option.some Jvm.ClassFile.FieldType.int)) ∈ lw_all := lw_g (lw_at lw_m7 60 rfl) rfl
theorem q1648 : (Jvm.Cond.instanceMethod ({ cls := "VerbAtDusk", name := "chance", desc := "(I)I" } : Jvm.MethodName)) ∈ lw_all := lw_g (lw_at lw_m7 62 rfl) rfl
theorem q1649 : (Jvm.Cond.selects "VerbAtDusk" ({ cls := "VerbAtDusk", name := "chance", desc := "(I)I" } : Jvm.MethodName) ({ cls := "VerbAtDusk", name := "chance", desc := "(I)I" } : Jvm.MethodName)) ∈ lw_all := lw_g (lw_at lw_m7 63 rfl) rfl
theorem q1650 : (Jvm.Cond.code ({ cls := "VerbAtDusk", name := "chance", desc := "(I)I" } : Jvm.MethodName) prog_1_method_51_code (4 : Nat) (Option.some Jvm.ClassFile.FieldType.int)) ∈ lw_all := lw_g (lw_at lw_m7 64 rfl) rfl
theorem q1651 : (Jvm.Cond.methodLink "VerbAtDusk" (330 : Nat) ({ cls := "VerbAtDusk", name := "draw", desc := "(I)I" } : Jvm.MethodName)) ∈ lw_all := lw_g (lw_at lw_m7 65 rfl) rfl
theorem q1652 : (Jvm.Cond.privateMethod ({ cls := "VerbAtDusk", name := "draw", desc := "(I)I" } : Jvm.MethodName)) ∈ lw_tbl := lw_at lw_m7 66 rfl
theorem q1653 : (Jvm.Cond.instanceMethod ({ cls := "VerbAtDusk", name := "draw", desc := "(I)I" } : Jvm.MethodName)) ∈ lw_all := lw_g (lw_at lw_m7 67 rfl) rfl
theorem q1654 : (Jvm.Cond.code ({ cls := "VerbAtDusk", name := "draw", desc := "(I)I" } : Jvm.MethodName) prog_1_method_50_code (2 : Nat) (Option.some Jvm.ClassFile.FieldType.int)) ∈ lw_all := lw_g (lw_at lw_m7 68 rfl) rfl
theorem q1655 : (Jvm.Cond.constantLong "VerbAtDusk" (322 : Nat) (1103515245 : Int64)) ∈ lw_all := lw_g (lw_at lw_m7 69 rfl) rfl
theorem q1656 : (Jvm.Cond.constantLong "VerbAtDusk" (324 : Nat) (12345 : Int64)) ∈ lw_all := lw_g (lw_at lw_m7 70 rfl) rfl
theorem q1657 : (Jvm.Cond.constantLong "VerbAtDusk" (326 : Nat) (2147483648 : Int64)) ∈ lw_all := lw_g (lw_at lw_m7 71 rfl) rfl
theorem q1658 : (Jvm.Cond.constantLong "VerbAtDusk" (328 : Nat) (64 : Int64)) ∈ lw_all := lw_g (lw_at lw_m7 72 rfl) rfl
theorem q1659 : (Jvm.Cond.methodLink "VerbAtDusk" (336 : Nat) ({ cls := "VerbAtDusk$State", name := "spills", desc := "()V" } : Jvm.MethodName)) ∈ lw_all := lw_g (lw_at lw_m7 73 rfl) rfl
theorem q1667 : (Jvm.Cond.instanceMethod ({ cls := "VerbAtDusk", name := "seed", desc := "(I)Z" } : Jvm.MethodName)) ∈ lw_all := lw_g (lw_at lw_m7 81 rfl) rfl
theorem q1668 : (Jvm.Cond.selects "VerbAtDusk" ({ cls := "VerbAtDusk", name := "seed", desc := "(I)Z" } : Jvm.MethodName) ({ cls := "VerbAtDusk", name := "seed", desc := "(I)Z" } : Jvm.MethodName)) ∈ lw_all := lw_g (lw_at lw_m7 82 rfl) rfl
theorem q1669 : (Jvm.Cond.code ({ cls := "VerbAtDusk", name := "seed", desc := "(I)Z" } : Jvm.MethodName) prog_1_method_52_code (2 : Nat) (Option.some Jvm.ClassFile.FieldType.boolean)) ∈ lw_all := lw_g (lw_at lw_m7 83 rfl) rfl
theorem q1671 : (Jvm.Cond.instanceMethod ({ cls := "VerbAtDusk", name := "ask", desc := "()J" } : Jvm.MethodName)) ∈ lw_all := lw_g (lw_at lw_m7 85 rfl) rfl
theorem q1672 : (Jvm.Cond.selects "VerbAtDusk" ({ cls := "VerbAtDusk", name := "ask", desc := "()J" } : Jvm.MethodName) ({ cls := "VerbAtDusk", name := "ask", desc := "()J" } : Jvm.MethodName)) ∈ lw_all := lw_g (lw_at lw_m7 86 rfl) rfl
theorem q1673 : (Jvm.Cond.codeWith ({ cls := "VerbAtDusk", name := "ask", desc := "()J" } : Jvm.MethodName) prog_1_method_54_code (4 : Nat) (Option.some Jvm.ClassFile.FieldType.long) [((26 : Nat), (35 : Nat), (38 : Nat), (137 : Nat))]) ∈ lw_all := lw_g (lw_at lw_m7 87 rfl) rfl
theorem q1674 : (Jvm.Cond.methodLink "VerbAtDusk" (342 : Nat) ({ cls := "VerbAtDusk$Reader", name := "question", desc := "(I)LVerbAtDusk$Question;" } : Jvm.MethodName)) ∈ lw_all := lw_g (lw_at lw_m7 88 rfl) rfl
theorem q1679 : (Jvm.Cond.laysStatic "VerbAtDusk" "TOLD_OF" "[Ljava/lang/String;") ∈ lw_tbl := lw_at lw_m7 93 rfl
theorem q1703 : (Jvm.Cond.methodLink "VerbAtDusk" (350 : Nat) ({ cls := "VerbAtDusk$Question", name := "meets", desc := "(ILVerbAtDusk$Moment;)V" } : Jvm.MethodName)) ∈ lw_all := lw_g (lw_at lw_m7 117 rfl) rfl
theorem q1711 : (Jvm.Cond.methodLink "VerbAtDusk" (356 : Nat) ({ cls := "VerbAtDusk$Question", name := "answer", desc := "()J" } : Jvm.MethodName)) ∈ lw_all := lw_g (lw_at lw_m7 125 rfl) rfl
theorem q1716 : (Jvm.Cond.instanceMethod ({ cls := "VerbAtDusk", name := "image", desc := "()I" } : Jvm.MethodName)) ∈ lw_all := lw_g (lw_at lw_m7 130 rfl) rfl
theorem q1717 : (Jvm.Cond.selects "VerbAtDusk" ({ cls := "VerbAtDusk", name := "image", desc := "()I" } : Jvm.MethodName) ({ cls := "VerbAtDusk", name := "image", desc := "()I" } : Jvm.MethodName)) ∈ lw_all := lw_g (lw_at lw_m7 131 rfl) rfl
theorem q1718 : (Jvm.Cond.code ({ cls := "VerbAtDusk", name := "image", desc := "()I" } : Jvm.MethodName) prog_1_method_57_code (3 : Nat) (Option.some Jvm.ClassFile.FieldType.int)) ∈ lw_all := lw_g (lw_at lw_m7 132 rfl) rfl
theorem q1719 : (Jvm.Cond.methodLink "VerbAtDusk" (363 : Nat) ({ cls := "VerbAtDusk", name := "writes", desc := "(I)V" } : Jvm.MethodName)) ∈ lw_all := lw_g (lw_at lw_m7 133 rfl) rfl
theorem q1720 : (Jvm.Cond.privateMethod ({ cls := "VerbAtDusk", name := "writes", desc := "(I)V" } : Jvm.MethodName)) ∈ lw_tbl := lw_at lw_m7 134 rfl
theorem q1721 : (Jvm.Cond.instanceMethod ({ cls := "VerbAtDusk", name := "writes", desc := "(I)V" } : Jvm.MethodName)) ∈ lw_all := lw_g (lw_at lw_m7 135 rfl) rfl
theorem q1722 : (Jvm.Cond.code ({ cls := "VerbAtDusk", name := "writes", desc := "(I)V" } : Jvm.MethodName) prog_1_method_55_code (2 : Nat) (Option.none : Option Jvm.ClassFile.FieldType)) ∈ lw_all := lw_g (lw_at lw_m7 136 rfl) rfl
theorem q1723 : (Jvm.Cond.methodLink "VerbAtDusk" (366 : Nat) ({ cls := "VerbAtDusk", name := "check", desc := "([BI)I" } : Jvm.MethodName)) ∈ lw_all := lw_g (lw_at lw_m7 137 rfl) rfl
theorem q1724 : (Jvm.Cond.static ({ cls := "VerbAtDusk", name := "check", desc := "([BI)I" } : Jvm.MethodName)) ∈ lw_all := lw_g (lw_at lw_m7 138 rfl) rfl
theorem q1725 : (Jvm.Cond.code ({ cls := "VerbAtDusk", name := "check", desc := "([BI)I" } : Jvm.MethodName) prog_1_method_56_code (4 : Nat) (Option.some Jvm.ClassFile.FieldType.int)) ∈ lw_all := lw_g (lw_at lw_m7 139 rfl) rfl
theorem q1727 : (Jvm.Cond.instanceMethod ({ cls := "VerbAtDusk", name := "octet", desc := "(I)I" } : Jvm.MethodName)) ∈ lw_all := lw_g (lw_at lw_m7 141 rfl) rfl
theorem q1728 : (Jvm.Cond.selects "VerbAtDusk" ({ cls := "VerbAtDusk", name := "octet", desc := "(I)I" } : Jvm.MethodName) ({ cls := "VerbAtDusk", name := "octet", desc := "(I)I" } : Jvm.MethodName)) ∈ lw_all := lw_g (lw_at lw_m7 142 rfl) rfl
theorem q1729 : (Jvm.Cond.code ({ cls := "VerbAtDusk", name := "octet", desc := "(I)I" } : Jvm.MethodName) prog_1_method_58_code (2 : Nat) (Option.some Jvm.ClassFile.FieldType.int)) ∈ lw_all := lw_g (lw_at lw_m7 143 rfl) rfl
theorem q1731 : (Jvm.Cond.instanceMethod ({ cls := "VerbAtDusk", name := "on", desc := "()Z" } : Jvm.MethodName)) ∈ lw_all := lw_g (lw_at lw_m7 145 rfl) rfl
theorem q1732 : (Jvm.Cond.selects "VerbAtDusk" ({ cls := "VerbAtDusk", name := "on", desc := "()Z" } : Jvm.MethodName) ({ cls := "VerbAtDusk", name := "on", desc := "()Z" } : Jvm.MethodName)) ∈ lw_all := lw_g (lw_at lw_m7 146 rfl) rfl
theorem q1733 : (Jvm.Cond.code ({ cls := "VerbAtDusk", name := "on", desc := "()Z" } : Jvm.MethodName) prog_1_method_61_code (1 : Nat) (Option.some Jvm.ClassFile.FieldType.boolean)) ∈ lw_all := lw_g (lw_at lw_m7 147 rfl) rfl
theorem q1734 : (Jvm.Cond.methodLink "VerbAtDusk" (373 : Nat) ({ cls := "VerbAtDusk", name := "comesOn", desc := "(I)Z" } : Jvm.MethodName)) ∈ lw_all := lw_g (lw_at lw_m7 148 rfl) rfl
theorem q1735 : (Jvm.Cond.privateMethod ({ cls := "VerbAtDusk", name := "comesOn", desc := "(I)Z" } : Jvm.MethodName)) ∈ lw_tbl := lw_at lw_m7 149 rfl
theorem q1736 : (Jvm.Cond.instanceMethod ({ cls := "VerbAtDusk", name := "comesOn", desc := "(I)Z" } : Jvm.MethodName)) ∈ lw_all := lw_g (lw_at lw_m7 150 rfl) rfl
theorem q1737 : (Jvm.Cond.code ({ cls := "VerbAtDusk", name := "comesOn", desc := "(I)Z" } : Jvm.MethodName) prog_1_method_60_code (5 : Nat) (Option.some Jvm.ClassFile.FieldType.boolean)) ∈ lw_all := lw_g (lw_at lw_m7 151 rfl) rfl
theorem q1738 : (Jvm.Cond.methodLink "VerbAtDusk" (370 : Nat) ({ cls := "VerbAtDusk", name := "sayingOn", desc := "(II)Z" } : Jvm.MethodName)) ∈ lw_all := lw_g (lw_at lw_m7 152 rfl) rfl
theorem q1739 : (Jvm.Cond.privateMethod ({ cls := "VerbAtDusk", name := "sayingOn", desc := "(II)Z" } : Jvm.MethodName)) ∈ lw_tbl := lw_at lw_m7 153 rfl
theorem q1740 : (Jvm.Cond.instanceMethod ({ cls := "VerbAtDusk", name := "sayingOn", desc := "(II)Z" } : Jvm.MethodName)) ∈ lw_all := lw_g (lw_at lw_m7 154 rfl) rfl
theorem q1741 : (Jvm.Cond.code ({ cls := "VerbAtDusk", name := "sayingOn", desc := "(II)Z" } : Jvm.MethodName) prog_1_method_59_code (5 : Nat) (Option.some Jvm.ClassFile.FieldType.boolean)) ∈ lw_all := lw_g (lw_at lw_m7 155 rfl) rfl
theorem q1743 : (Jvm.Cond.instanceMethod ({ cls := "VerbAtDusk", name := "status", desc := "(I)I" } : Jvm.MethodName)) ∈ lw_all := lw_g (lw_at lw_m7 157 rfl) rfl
theorem q1744 : (Jvm.Cond.selects "VerbAtDusk" ({ cls := "VerbAtDusk", name := "status", desc := "(I)I" } : Jvm.MethodName) ({ cls := "VerbAtDusk", name := "status", desc := "(I)I" } : Jvm.MethodName)) ∈ lw_all := lw_g (lw_at lw_m7 158 rfl) rfl
theorem q1745 : (Jvm.Cond.code ({ cls := "VerbAtDusk", name := "status", desc := "(I)I" } : Jvm.MethodName) prog_1_method_62_code (2 : Nat) (Option.some Jvm.ClassFile.FieldType.int)) ∈ lw_all := lw_g (lw_at lw_m7 159 rfl) rfl
theorem q2643 : (Jvm.Cond.castable "VerbAtDusk" "java/lang/Object") ∈ lw_tbl := lw_at lw_m11 97 rfl
theorem q2682 : (Jvm.Cond.stringRef "VerbAtDusk" (407 : Nat) "dusk") ∈ lw_tbl := lw_at lw_m11 136 rfl
theorem q2683 : (Jvm.Cond.stringRef "VerbAtDusk" (408 : Nat) "saying") ∈ lw_tbl := lw_at lw_m11 137 rfl
theorem q2684 : (Jvm.Cond.stringRef "VerbAtDusk" (410 : Nat) "at") ∈ lw_tbl := lw_at lw_m11 138 rfl
theorem q2685 : (Jvm.Cond.stringRef "VerbAtDusk" (376 : Nat) "tone") ∈ lw_tbl := lw_at lw_m11 139 rfl
theorem q2686 : (Jvm.Cond.stringRef "VerbAtDusk" (412 : Nat) "verb") ∈ lw_tbl := lw_at lw_m11 140 rfl
theorem q2687 : (Jvm.Cond.stringRef "VerbAtDusk" (377 : Nat) "kind") ∈ lw_tbl := lw_at lw_m11 141 rfl
theorem q2688 : (Jvm.Cond.stringRef "VerbAtDusk" (378 : Nat) "mild") ∈ lw_tbl := lw_at lw_m11 142 rfl
theorem q2689 : (Jvm.Cond.stringRef "VerbAtDusk" (414 : Nat) "lent") ∈ lw_tbl := lw_at lw_m11 143 rfl
theorem q2690 : (Jvm.Cond.stringRef "VerbAtDusk" (415 : Nat) "takes") ∈ lw_tbl := lw_at lw_m11 144 rfl
theorem q2691 : (Jvm.Cond.stringRef "VerbAtDusk" (390 : Nat) "well") ∈ lw_tbl := lw_at lw_m11 145 rfl
theorem q2692 : (Jvm.Cond.stringRef "VerbAtDusk" (417 : Nat) "turns") ∈ lw_tbl := lw_at lw_m11 146 rfl
theorem q2693 : (Jvm.Cond.stringRef "VerbAtDusk" (419 : Nat) "ditch") ∈ lw_tbl := lw_at lw_m11 147 rfl
theorem q2694 : (Jvm.Cond.stringRef "VerbAtDusk" (379 : Nat) "given") ∈ lw_tbl := lw_at lw_m11 148 rfl
theorem q2695 : (Jvm.Cond.stringRef "VerbAtDusk" (380 : Nat) "day") ∈ lw_tbl := lw_at lw_m11 149 rfl
theorem q2696 : (Jvm.Cond.stringRef "VerbAtDusk" (381 : Nat) "number") ∈ lw_tbl := lw_at lw_m11 150 rfl
theorem q2697 : (Jvm.Cond.stringRef "VerbAtDusk" (383 : Nat) "column") ∈ lw_tbl := lw_at lw_m11 151 rfl
theorem q2698 : (Jvm.Cond.stringRef "VerbAtDusk" (384 : Nat) "row") ∈ lw_tbl := lw_at lw_m11 152 rfl
theorem q2699 : (Jvm.Cond.stringRef "VerbAtDusk" (385 : Nat) "gets") ∈ lw_tbl := lw_at lw_m11 153 rfl
theorem q2700 : (Jvm.Cond.stringRef "VerbAtDusk" (420 : Nat) "or") ∈ lw_tbl := lw_at lw_m11 154 rfl
theorem q2701 : (Jvm.Cond.stringRef "VerbAtDusk" (422 : Nat) "and") ∈ lw_tbl := lw_at lw_m11 155 rfl
theorem q2702 : (Jvm.Cond.stringRef "VerbAtDusk" (424 : Nat) "not") ∈ lw_tbl := lw_at lw_m11 156 rfl
theorem q2703 : (Jvm.Cond.stringRef "VerbAtDusk" (426 : Nat) "all") ∈ lw_tbl := lw_at lw_m11 157 rfl
theorem q2704 : (Jvm.Cond.stringRef "VerbAtDusk" (427 : Nat) "min") ∈ lw_tbl := lw_at lw_m11 158 rfl
theorem q2705 : (Jvm.Cond.stringRef "VerbAtDusk" (428 : Nat) "max") ∈ lw_tbl := lw_at lw_m11 159 rfl
theorem q2707 : (Jvm.Cond.stringRef "VerbAtDusk" (394 : Nat) "first") ∈ lw_tbl := lw_at lw_m11 161 rfl
theorem q2708 : (Jvm.Cond.stringRef "VerbAtDusk" (396 : Nat) "last") ∈ lw_tbl := lw_at lw_m11 162 rfl
theorem q2709 : (Jvm.Cond.stringRef "VerbAtDusk" (398 : Nat) "often") ∈ lw_tbl := lw_at lw_m11 163 rfl
theorem q2710 : (Jvm.Cond.stringRef "VerbAtDusk" (400 : Nat) "total") ∈ lw_tbl := lw_at lw_m11 164 rfl
theorem q2711 : (Jvm.Cond.stringRef "VerbAtDusk" (402 : Nat) "most") ∈ lw_tbl := lw_at lw_m11 165 rfl
theorem q2712 : (Jvm.Cond.stringRef "VerbAtDusk" (403 : Nat) "least") ∈ lw_tbl := lw_at lw_m11 166 rfl
theorem in_X0 : ∀ w ∈ wsX00, w ∈ lw_all := lw_in wsX00 [547, 549, 551, 553, 555, 557, 559, 561, 563, 565, 567, 569, 571, 573, 575, 577, 579, 581, 583, 585, 587, 589, 591, 593] (by decide +kernel) (by decide +kernel)
