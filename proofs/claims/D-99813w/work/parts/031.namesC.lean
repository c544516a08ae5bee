/-! FirstSnuffer -/
set_option maxRecDepth 100000
def RX0 : String := "FirstSnuffer"
def TX0 : u_T := fun k => match k with
  | 0 => ("FirstSnuffer", "household", "LFirstSnuffer$Household;", false)
  | 1 => ("FirstSnuffer", "tape", "[B", true)
  | 2 => ("FirstSnuffer", "taped", "I", false)
  | 3 => ("FirstSnuffer", "faultKind", "I", false)
  | 4 => ("FirstSnuffer", "faultPlace", "I", false)
  | 5 => ("FirstSnuffer", "reader", "LFirstSnuffer$Reader;", true)
  | 6 => ("FirstSnuffer", "moment", "LFirstSnuffer$Moment;", true)
  | 7 => ("FirstSnuffer", "asked", "LFirstSnuffer$Moment;", true)
  | 8 => ("FirstSnuffer", "refused", "[I", true)
  | 9 => ("FirstSnuffer", "far", "[[I", true)
  | 10 => ("FirstSnuffer", "now", "LFirstSnuffer$State;", true)
  | 11 => ("FirstSnuffer", "tried", "LFirstSnuffer$State;", true)
  | 12 => ("FirstSnuffer", "order", "[I", true)
  | 13 => ("FirstSnuffer", "bestOrder", "[I", true)
  | 14 => ("FirstSnuffer", "fewestHours", "I", false)
  | 15 => ("FirstSnuffer", "isUsed", "[Z", true)
  | 16 => ("FirstSnuffer", "reachedBy", "[I", true)
  | 17 => ("FirstSnuffer", "rowHours", "[I", true)
  | 18 => ("FirstSnuffer", "rowThing", "[I", true)
  | 19 => ("FirstSnuffer", "rowStrength", "[I", true)
  | 20 => ("FirstSnuffer", "rows", "I", false)
  | 21 => ("FirstSnuffer", "strengthBy", "[[[I", true)
  | 22 => ("FirstSnuffer", "kept", "[LFirstSnuffer$State;", true)
  | 23 => ("FirstSnuffer", "undos", "I", false)
  | 24 => ("FirstSnuffer", "seeds", "J", false)
  | 25 => ("FirstSnuffer", "askedThing", "I", false)
  | 26 => ("FirstSnuffer", "out", "[B", true)
  | _ => ("FirstSnuffer", "outs", "I", false)
def tyX0 : Nat → FieldType := fun k => match k with
  | 0 => .object "FirstSnuffer$Household"
  | 1 => .array .byte
  | 2 => .int
  | 3 => .int
  | 4 => .int
  | 5 => .object "FirstSnuffer$Reader"
  | 6 => .object "FirstSnuffer$Moment"
  | 7 => .object "FirstSnuffer$Moment"
  | 8 => .array .int
  | 9 => .array (.array .int)
  | 10 => .object "FirstSnuffer$State"
  | 11 => .object "FirstSnuffer$State"
  | 12 => .array .int
  | 13 => .array .int
  | 14 => .int
  | 15 => .array .boolean
  | 16 => .array .int
  | 17 => .array .int
  | 18 => .array .int
  | 19 => .array .int
  | 20 => .int
  | 21 => .array (.array (.array .int))
  | 22 => .array (.object "FirstSnuffer$State")
  | 23 => .int
  | 24 => .long
  | 25 => .int
  | 26 => .array .byte
  | _ => .int
abbrev wsX00 : List Cond := u_ws RX0 TX0 28
set_option maxRecDepth 100000 in
theorem nmX0 : ∀ a, a < 28 → ∀ b, b < 28 → a ≠ b → (TX0 a).2.1 ≠ (TX0 b).2.1 := by decide +kernel
set_option maxRecDepth 100000 in
theorem tyX0_ok : ∀ k, k < 28 → parseFieldDescriptor (TX0 k).2.2.1 = some (tyX0 k) := by decide +kernel
abbrev cX0_init : ByteArray := prog_1_method_7_code
def yX0_init : MethodName := ⟨RX0, "<init>", "()V"⟩
def dkwX0_init_9 : List UInt8 := [83, 132, 1, 1, 167, 255, 233, 42, 10, 181, 0, 115, 42, 16, 32, 188, 8, 181, 0, 119, 177]
abbrev dktX0_init_9 : List UInt8 := dkwX0_init_9 ++ []
def dkwX0_init_8 : List UInt8 := [181, 0, 111, 3, 60, 27, 16, 20, 162, 0, 23, 42, 180, 0, 111, 27, 187, 0, 71, 89, 42, 183, 0, 73]
abbrev dktX0_init_8 : List UInt8 := dkwX0_init_8 ++ dktX0_init_9
def dkwX0_init_7 : List UInt8 := [181, 0, 103, 42, 16, 10, 16, 31, 16, 8, 197, 0, 106, 3, 181, 0, 108, 42, 16, 20, 189, 0, 71]
abbrev dktX0_init_7 : List UInt8 := dkwX0_init_7 ++ dktX0_init_8
def dkwX0_init_6 : List UInt8 := [181, 0, 94, 42, 16, 16, 188, 10, 181, 0, 97, 42, 16, 16, 188, 10, 181, 0, 100, 42, 16, 16, 188, 10]
abbrev dktX0_init_6 : List UInt8 := dkwX0_init_6 ++ dktX0_init_7
def dkwX0_init_5 : List UInt8 := [181, 0, 84, 42, 7, 188, 10, 181, 0, 87, 42, 16, 12, 188, 4, 181, 0, 90, 42, 16, 8, 188, 10]
abbrev dktX0_init_5 : List UInt8 := dkwX0_init_5 ++ dktX0_init_6
def dkwX0_init_4 : List UInt8 := [181, 0, 74, 42, 187, 0, 71, 89, 42, 183, 0, 73, 181, 0, 78, 42, 182, 0, 81, 42, 7, 188, 10]
abbrev dktX0_init_4 : List UInt8 := dkwX0_init_4 ++ dktX0_init_5
def dkwX0_init_3 : List UInt8 := [181, 0, 62, 42, 16, 8, 16, 8, 197, 0, 66, 2, 181, 0, 68, 42, 187, 0, 71, 89, 42, 183, 0, 73]
abbrev dktX0_init_3 : List UInt8 := dkwX0_init_3 ++ dktX0_init_4
def dkwX0_init_2 : List UInt8 := [183, 0, 54, 181, 0, 55, 42, 187, 0, 52, 89, 183, 0, 54, 181, 0, 59, 42, 16, 6, 188, 10]
abbrev dktX0_init_2 : List UInt8 := dkwX0_init_2 ++ dktX0_init_3
def dkwX0_init_1 : List UInt8 := [42, 2, 181, 0, 39, 42, 187, 0, 43, 89, 42, 183, 0, 45, 181, 0, 48, 42, 187, 0, 52, 89]
abbrev dktX0_init_1 : List UInt8 := dkwX0_init_1 ++ dktX0_init_2
def dkwX0_init_0 : List UInt8 := [42, 183, 0, 22, 42, 187, 0, 28, 89, 183, 0, 30, 181, 0, 31, 42, 17, 6, 64, 188, 8, 181, 0, 35]
abbrev dktX0_init_0 : List UInt8 := dkwX0_init_0 ++ dktX0_init_1
theorem dksX0_init_0 : cX0_init.data.toList.drop 0 = dktX0_init_0 := by decide +kernel
theorem dksX0_init_1 : cX0_init.data.toList.drop 24 = dktX0_init_1 := dk_seg dksX0_init_0 24 rfl rfl
theorem dksX0_init_2 : cX0_init.data.toList.drop 46 = dktX0_init_2 := dk_seg dksX0_init_1 22 rfl rfl
theorem dksX0_init_3 : cX0_init.data.toList.drop 68 = dktX0_init_3 := dk_seg dksX0_init_2 22 rfl rfl
theorem dksX0_init_4 : cX0_init.data.toList.drop 92 = dktX0_init_4 := dk_seg dksX0_init_3 24 rfl rfl
theorem dksX0_init_5 : cX0_init.data.toList.drop 115 = dktX0_init_5 := dk_seg dksX0_init_4 23 rfl rfl
theorem dksX0_init_6 : cX0_init.data.toList.drop 138 = dktX0_init_6 := dk_seg dksX0_init_5 23 rfl rfl
theorem dksX0_init_7 : cX0_init.data.toList.drop 162 = dktX0_init_7 := dk_seg dksX0_init_6 24 rfl rfl
theorem dksX0_init_8 : cX0_init.data.toList.drop 185 = dktX0_init_8 := dk_seg dksX0_init_7 23 rfl rfl
theorem dksX0_init_9 : cX0_init.data.toList.drop 209 = dktX0_init_9 := dk_seg dksX0_init_8 24 rfl rfl
theorem dX0_init_0 : decode cX0_init 0 = .ok (.aload_n 0, 1) := dk_42 (dk_at dksX0_init_0 0 rfl rfl)
theorem dX0_init_1 : decode cX0_init 1 = .ok (.invokespecial 22, 3) := dk_183 0 22 (dk_at dksX0_init_0 1 rfl rfl)
theorem dX0_init_4 : decode cX0_init 4 = .ok (.aload_n 0, 1) := dk_42 (dk_at dksX0_init_0 4 rfl rfl)
theorem dX0_init_5 : decode cX0_init 5 = .ok (.new 28, 3) := dk_187 0 28 (dk_at dksX0_init_0 5 rfl rfl)
theorem dX0_init_8 : decode cX0_init 8 = .ok (.dup, 1) := dk_89 (dk_at dksX0_init_0 8 rfl rfl)
theorem dX0_init_9 : decode cX0_init 9 = .ok (.invokespecial 30, 3) := dk_183 0 30 (dk_at dksX0_init_0 9 rfl rfl)
theorem dX0_init_12 : decode cX0_init 12 = .ok (.putfield 31, 3) := dk_181 0 31 (dk_at dksX0_init_0 12 rfl rfl)
theorem dX0_init_15 : decode cX0_init 15 = .ok (.aload_n 0, 1) := dk_42 (dk_at dksX0_init_0 15 rfl rfl)
theorem dX0_init_16 : decode cX0_init 16 = .ok (.sipush 1600, 3) := dk_17 6 64 (dk_at dksX0_init_0 16 rfl rfl)
theorem dX0_init_19 : decode cX0_init 19 = .ok (.newarray .byte, 2) := dk_188_8 (dk_at dksX0_init_0 19 rfl rfl)
theorem dX0_init_21 : decode cX0_init 21 = .ok (.putfield 35, 3) := dk_181 0 35 (dk_at dksX0_init_0 21 rfl rfl)
theorem dX0_init_24 : decode cX0_init 24 = .ok (.aload_n 0, 1) := dk_42 (dk_at dksX0_init_1 0 rfl rfl)
theorem dX0_init_25 : decode cX0_init 25 = .ok (.iconst (-1), 1) := dk_2 (dk_at dksX0_init_1 1 rfl rfl)
theorem dX0_init_26 : decode cX0_init 26 = .ok (.putfield 39, 3) := dk_181 0 39 (dk_at dksX0_init_1 2 rfl rfl)
theorem dX0_init_29 : decode cX0_init 29 = .ok (.aload_n 0, 1) := dk_42 (dk_at dksX0_init_1 5 rfl rfl)
theorem dX0_init_30 : decode cX0_init 30 = .ok (.new 43, 3) := dk_187 0 43 (dk_at dksX0_init_1 6 rfl rfl)
theorem dX0_init_33 : decode cX0_init 33 = .ok (.dup, 1) := dk_89 (dk_at dksX0_init_1 9 rfl rfl)
theorem dX0_init_34 : decode cX0_init 34 = .ok (.aload_n 0, 1) := dk_42 (dk_at dksX0_init_1 10 rfl rfl)
theorem dX0_init_35 : decode cX0_init 35 = .ok (.invokespecial 45, 3) := dk_183 0 45 (dk_at dksX0_init_1 11 rfl rfl)
theorem dX0_init_38 : decode cX0_init 38 = .ok (.putfield 48, 3) := dk_181 0 48 (dk_at dksX0_init_1 14 rfl rfl)
theorem dX0_init_41 : decode cX0_init 41 = .ok (.aload_n 0, 1) := dk_42 (dk_at dksX0_init_1 17 rfl rfl)
theorem dX0_init_42 : decode cX0_init 42 = .ok (.new 52, 3) := dk_187 0 52 (dk_at dksX0_init_1 18 rfl rfl)
theorem dX0_init_45 : decode cX0_init 45 = .ok (.dup, 1) := dk_89 (dk_at dksX0_init_1 21 rfl rfl)
theorem dX0_init_46 : decode cX0_init 46 = .ok (.invokespecial 54, 3) := dk_183 0 54 (dk_at dksX0_init_2 0 rfl rfl)
theorem dX0_init_49 : decode cX0_init 49 = .ok (.putfield 55, 3) := dk_181 0 55 (dk_at dksX0_init_2 3 rfl rfl)
theorem dX0_init_52 : decode cX0_init 52 = .ok (.aload_n 0, 1) := dk_42 (dk_at dksX0_init_2 6 rfl rfl)
theorem dX0_init_53 : decode cX0_init 53 = .ok (.new 52, 3) := dk_187 0 52 (dk_at dksX0_init_2 7 rfl rfl)
theorem dX0_init_56 : decode cX0_init 56 = .ok (.dup, 1) := dk_89 (dk_at dksX0_init_2 10 rfl rfl)
theorem dX0_init_57 : decode cX0_init 57 = .ok (.invokespecial 54, 3) := dk_183 0 54 (dk_at dksX0_init_2 11 rfl rfl)
theorem dX0_init_60 : decode cX0_init 60 = .ok (.putfield 59, 3) := dk_181 0 59 (dk_at dksX0_init_2 14 rfl rfl)
theorem dX0_init_63 : decode cX0_init 63 = .ok (.aload_n 0, 1) := dk_42 (dk_at dksX0_init_2 17 rfl rfl)
theorem dX0_init_64 : decode cX0_init 64 = .ok (.bipush 6, 2) := dk_16 6 (dk_at dksX0_init_2 18 rfl rfl)
theorem dX0_init_66 : decode cX0_init 66 = .ok (.newarray .int, 2) := dk_188_10 (dk_at dksX0_init_2 20 rfl rfl)
theorem dX0_init_68 : decode cX0_init 68 = .ok (.putfield 62, 3) := dk_181 0 62 (dk_at dksX0_init_3 0 rfl rfl)
theorem dX0_init_71 : decode cX0_init 71 = .ok (.aload_n 0, 1) := dk_42 (dk_at dksX0_init_3 3 rfl rfl)
theorem dX0_init_72 : decode cX0_init 72 = .ok (.bipush 8, 2) := dk_16 8 (dk_at dksX0_init_3 4 rfl rfl)
theorem dX0_init_74 : decode cX0_init 74 = .ok (.bipush 8, 2) := dk_16 8 (dk_at dksX0_init_3 6 rfl rfl)
theorem dX0_init_76 : decode cX0_init 76 = .ok (.multianewarray 66 2, 4) := by decide +kernel
theorem dX0_init_80 : decode cX0_init 80 = .ok (.putfield 68, 3) := dk_181 0 68 (dk_at dksX0_init_3 12 rfl rfl)
theorem dX0_init_83 : decode cX0_init 83 = .ok (.aload_n 0, 1) := dk_42 (dk_at dksX0_init_3 15 rfl rfl)
theorem dX0_init_84 : decode cX0_init 84 = .ok (.new 71, 3) := dk_187 0 71 (dk_at dksX0_init_3 16 rfl rfl)
theorem dX0_init_87 : decode cX0_init 87 = .ok (.dup, 1) := dk_89 (dk_at dksX0_init_3 19 rfl rfl)
theorem dX0_init_88 : decode cX0_init 88 = .ok (.aload_n 0, 1) := dk_42 (dk_at dksX0_init_3 20 rfl rfl)
theorem dX0_init_89 : decode cX0_init 89 = .ok (.invokespecial 73, 3) := dk_183 0 73 (dk_at dksX0_init_3 21 rfl rfl)
theorem dX0_init_92 : decode cX0_init 92 = .ok (.putfield 74, 3) := dk_181 0 74 (dk_at dksX0_init_4 0 rfl rfl)
theorem dX0_init_95 : decode cX0_init 95 = .ok (.aload_n 0, 1) := dk_42 (dk_at dksX0_init_4 3 rfl rfl)
theorem dX0_init_96 : decode cX0_init 96 = .ok (.new 71, 3) := dk_187 0 71 (dk_at dksX0_init_4 4 rfl rfl)
theorem dX0_init_99 : decode cX0_init 99 = .ok (.dup, 1) := dk_89 (dk_at dksX0_init_4 7 rfl rfl)
theorem dX0_init_100 : decode cX0_init 100 = .ok (.aload_n 0, 1) := dk_42 (dk_at dksX0_init_4 8 rfl rfl)
theorem dX0_init_101 : decode cX0_init 101 = .ok (.invokespecial 73, 3) := dk_183 0 73 (dk_at dksX0_init_4 9 rfl rfl)
theorem dX0_init_104 : decode cX0_init 104 = .ok (.putfield 78, 3) := dk_181 0 78 (dk_at dksX0_init_4 12 rfl rfl)
theorem dX0_init_107 : decode cX0_init 107 = .ok (.aload_n 0, 1) := dk_42 (dk_at dksX0_init_4 15 rfl rfl)
theorem dX0_init_108 : decode cX0_init 108 = .ok (.invokevirtual 81, 3) := dk_182 0 81 (dk_at dksX0_init_4 16 rfl rfl)
theorem dX0_init_111 : decode cX0_init 111 = .ok (.aload_n 0, 1) := dk_42 (dk_at dksX0_init_4 19 rfl rfl)
theorem dX0_init_112 : decode cX0_init 112 = .ok (.iconst 4, 1) := dk_7 (dk_at dksX0_init_4 20 rfl rfl)
theorem dX0_init_113 : decode cX0_init 113 = .ok (.newarray .int, 2) := dk_188_10 (dk_at dksX0_init_4 21 rfl rfl)
theorem dX0_init_115 : decode cX0_init 115 = .ok (.putfield 84, 3) := dk_181 0 84 (dk_at dksX0_init_5 0 rfl rfl)
theorem dX0_init_118 : decode cX0_init 118 = .ok (.aload_n 0, 1) := dk_42 (dk_at dksX0_init_5 3 rfl rfl)
theorem dX0_init_119 : decode cX0_init 119 = .ok (.iconst 4, 1) := dk_7 (dk_at dksX0_init_5 4 rfl rfl)
theorem dX0_init_120 : decode cX0_init 120 = .ok (.newarray .int, 2) := dk_188_10 (dk_at dksX0_init_5 5 rfl rfl)
theorem dX0_init_122 : decode cX0_init 122 = .ok (.putfield 87, 3) := dk_181 0 87 (dk_at dksX0_init_5 7 rfl rfl)
theorem dX0_init_125 : decode cX0_init 125 = .ok (.aload_n 0, 1) := dk_42 (dk_at dksX0_init_5 10 rfl rfl)
theorem dX0_init_126 : decode cX0_init 126 = .ok (.bipush 12, 2) := dk_16 12 (dk_at dksX0_init_5 11 rfl rfl)
theorem dX0_init_128 : decode cX0_init 128 = .ok (.newarray .boolean, 2) := dk_188_4 (dk_at dksX0_init_5 13 rfl rfl)
theorem dX0_init_130 : decode cX0_init 130 = .ok (.putfield 90, 3) := dk_181 0 90 (dk_at dksX0_init_5 15 rfl rfl)
theorem dX0_init_133 : decode cX0_init 133 = .ok (.aload_n 0, 1) := dk_42 (dk_at dksX0_init_5 18 rfl rfl)
theorem dX0_init_134 : decode cX0_init 134 = .ok (.bipush 8, 2) := dk_16 8 (dk_at dksX0_init_5 19 rfl rfl)
theorem dX0_init_136 : decode cX0_init 136 = .ok (.newarray .int, 2) := dk_188_10 (dk_at dksX0_init_5 21 rfl rfl)
theorem dX0_init_138 : decode cX0_init 138 = .ok (.putfield 94, 3) := dk_181 0 94 (dk_at dksX0_init_6 0 rfl rfl)
theorem dX0_init_141 : decode cX0_init 141 = .ok (.aload_n 0, 1) := dk_42 (dk_at dksX0_init_6 3 rfl rfl)
theorem dX0_init_142 : decode cX0_init 142 = .ok (.bipush 16, 2) := dk_16 16 (dk_at dksX0_init_6 4 rfl rfl)
theorem dX0_init_144 : decode cX0_init 144 = .ok (.newarray .int, 2) := dk_188_10 (dk_at dksX0_init_6 6 rfl rfl)
theorem dX0_init_146 : decode cX0_init 146 = .ok (.putfield 97, 3) := dk_181 0 97 (dk_at dksX0_init_6 8 rfl rfl)
theorem dX0_init_149 : decode cX0_init 149 = .ok (.aload_n 0, 1) := dk_42 (dk_at dksX0_init_6 11 rfl rfl)
theorem dX0_init_150 : decode cX0_init 150 = .ok (.bipush 16, 2) := dk_16 16 (dk_at dksX0_init_6 12 rfl rfl)
theorem dX0_init_152 : decode cX0_init 152 = .ok (.newarray .int, 2) := dk_188_10 (dk_at dksX0_init_6 14 rfl rfl)
theorem dX0_init_154 : decode cX0_init 154 = .ok (.putfield 100, 3) := dk_181 0 100 (dk_at dksX0_init_6 16 rfl rfl)
theorem dX0_init_157 : decode cX0_init 157 = .ok (.aload_n 0, 1) := dk_42 (dk_at dksX0_init_6 19 rfl rfl)
theorem dX0_init_158 : decode cX0_init 158 = .ok (.bipush 16, 2) := dk_16 16 (dk_at dksX0_init_6 20 rfl rfl)
theorem dX0_init_160 : decode cX0_init 160 = .ok (.newarray .int, 2) := dk_188_10 (dk_at dksX0_init_6 22 rfl rfl)
theorem dX0_init_162 : decode cX0_init 162 = .ok (.putfield 103, 3) := dk_181 0 103 (dk_at dksX0_init_7 0 rfl rfl)
theorem dX0_init_165 : decode cX0_init 165 = .ok (.aload_n 0, 1) := dk_42 (dk_at dksX0_init_7 3 rfl rfl)
theorem dX0_init_166 : decode cX0_init 166 = .ok (.bipush 10, 2) := dk_16 10 (dk_at dksX0_init_7 4 rfl rfl)
theorem dX0_init_168 : decode cX0_init 168 = .ok (.bipush 31, 2) := dk_16 31 (dk_at dksX0_init_7 6 rfl rfl)
theorem dX0_init_170 : decode cX0_init 170 = .ok (.bipush 8, 2) := dk_16 8 (dk_at dksX0_init_7 8 rfl rfl)
theorem dX0_init_172 : decode cX0_init 172 = .ok (.multianewarray 106 3, 4) := by decide +kernel
theorem dX0_init_176 : decode cX0_init 176 = .ok (.putfield 108, 3) := dk_181 0 108 (dk_at dksX0_init_7 14 rfl rfl)
theorem dX0_init_179 : decode cX0_init 179 = .ok (.aload_n 0, 1) := dk_42 (dk_at dksX0_init_7 17 rfl rfl)
theorem dX0_init_180 : decode cX0_init 180 = .ok (.bipush 20, 2) := dk_16 20 (dk_at dksX0_init_7 18 rfl rfl)
theorem dX0_init_182 : decode cX0_init 182 = .ok (.anewarray 71, 3) := dk_189 0 71 (dk_at dksX0_init_7 20 rfl rfl)
theorem dX0_init_185 : decode cX0_init 185 = .ok (.putfield 111, 3) := dk_181 0 111 (dk_at dksX0_init_8 0 rfl rfl)
theorem dX0_init_188 : decode cX0_init 188 = .ok (.iconst 0, 1) := dk_3 (dk_at dksX0_init_8 3 rfl rfl)
theorem dX0_init_189 : decode cX0_init 189 = .ok (.istore_n 1, 1) := dk_60 (dk_at dksX0_init_8 4 rfl rfl)
theorem dX0_init_190 : decode cX0_init 190 = .ok (.iload_n 1, 1) := dk_27 (dk_at dksX0_init_8 5 rfl rfl)
theorem dX0_init_191 : decode cX0_init 191 = .ok (.bipush 20, 2) := dk_16 20 (dk_at dksX0_init_8 6 rfl rfl)
theorem dX0_init_193 : decode cX0_init 193 = .ok (.if_icmp .ge 23, 3) := dk_162 0 23 (dk_at dksX0_init_8 8 rfl rfl)
theorem dX0_init_196 : decode cX0_init 196 = .ok (.aload_n 0, 1) := dk_42 (dk_at dksX0_init_8 11 rfl rfl)
theorem dX0_init_197 : decode cX0_init 197 = .ok (.getfield 111, 3) := dk_180 0 111 (dk_at dksX0_init_8 12 rfl rfl)
theorem dX0_init_200 : decode cX0_init 200 = .ok (.iload_n 1, 1) := dk_27 (dk_at dksX0_init_8 15 rfl rfl)
theorem dX0_init_201 : decode cX0_init 201 = .ok (.new 71, 3) := dk_187 0 71 (dk_at dksX0_init_8 16 rfl rfl)
theorem dX0_init_204 : decode cX0_init 204 = .ok (.dup, 1) := dk_89 (dk_at dksX0_init_8 19 rfl rfl)
theorem dX0_init_205 : decode cX0_init 205 = .ok (.aload_n 0, 1) := dk_42 (dk_at dksX0_init_8 20 rfl rfl)
theorem dX0_init_206 : decode cX0_init 206 = .ok (.invokespecial 73, 3) := dk_183 0 73 (dk_at dksX0_init_8 21 rfl rfl)
theorem dX0_init_209 : decode cX0_init 209 = .ok (.aastore, 1) := dk_83 (dk_at dksX0_init_9 0 rfl rfl)
theorem dX0_init_210 : decode cX0_init 210 = .ok (.iinc 1 1, 3) := dk_132 1 1 (dk_at dksX0_init_9 1 rfl rfl)
theorem dX0_init_213 : decode cX0_init 213 = .ok (.goto (-23), 3) := dk_167 255 233 (dk_at dksX0_init_9 4 rfl rfl)
theorem dX0_init_216 : decode cX0_init 216 = .ok (.aload_n 0, 1) := dk_42 (dk_at dksX0_init_9 7 rfl rfl)
theorem dX0_init_217 : decode cX0_init 217 = .ok (.lconst 1, 1) := dk_10 (dk_at dksX0_init_9 8 rfl rfl)
theorem dX0_init_218 : decode cX0_init 218 = .ok (.putfield 115, 3) := dk_181 0 115 (dk_at dksX0_init_9 9 rfl rfl)
theorem dX0_init_221 : decode cX0_init 221 = .ok (.aload_n 0, 1) := dk_42 (dk_at dksX0_init_9 12 rfl rfl)
theorem dX0_init_222 : decode cX0_init 222 = .ok (.bipush 32, 2) := dk_16 32 (dk_at dksX0_init_9 13 rfl rfl)
theorem dX0_init_224 : decode cX0_init 224 = .ok (.newarray .byte, 2) := dk_188_8 (dk_at dksX0_init_9 15 rfl rfl)
theorem dX0_init_226 : decode cX0_init 226 = .ok (.putfield 119, 3) := dk_181 0 119 (dk_at dksX0_init_9 17 rfl rfl)
theorem dX0_init_229 : decode cX0_init 229 = .ok (.return_, 1) := dk_177 (dk_at dksX0_init_9 20 rfl rfl)
abbrev cX0_reckonsWays : ByteArray := prog_1_method_24_code
def yX0_reckonsWays : MethodName := ⟨RX0, "reckonsWays", "()V"⟩
def dkwX0_reckonsWays_9 : List UInt8 := [132, 3, 1, 167, 255, 211, 132, 2, 1, 167, 255, 197, 132, 1, 1, 167, 255, 183, 177]
abbrev dktX0_reckonsWays_9 : List UInt8 := dkwX0_reckonsWays_9 ++ []
def dkwX0_reckonsWays_8 : List UInt8 := [29, 46, 42, 180, 0, 68, 28, 50, 27, 46, 42, 180, 0, 68, 27, 50, 29, 46, 96, 184, 0, 208, 79]
abbrev dktX0_reckonsWays_8 : List UInt8 := dkwX0_reckonsWays_8 ++ dktX0_reckonsWays_9
def dkwX0_reckonsWays_7 : List UInt8 := [162, 0, 59, 3, 62, 29, 16, 8, 162, 0, 45, 42, 180, 0, 68, 28, 50, 29, 42, 180, 0, 68, 28, 50]
abbrev dktX0_reckonsWays_7 : List UInt8 := dkwX0_reckonsWays_7 ++ dktX0_reckonsWays_8
def dkwX0_reckonsWays_6 : List UInt8 := [180, 0, 202, 46, 79, 132, 1, 1, 167, 255, 157, 3, 60, 27, 16, 8, 162, 0, 73, 3, 61, 28, 16, 8]
abbrev dktX0_reckonsWays_6 : List UInt8 := dkwX0_reckonsWays_6 ++ dktX0_reckonsWays_7
def dkwX0_reckonsWays_5 : List UInt8 := [180, 0, 68, 44, 180, 0, 202, 50, 44, 180, 0, 199, 42, 180, 0, 68, 44, 180, 0, 199, 50, 44]
abbrev dktX0_reckonsWays_5 : List UInt8 := dkwX0_reckonsWays_5 ++ dktX0_reckonsWays_6
def dkwX0_reckonsWays_4 : List UInt8 := [180, 0, 68, 44, 180, 0, 199, 50, 44, 180, 0, 202, 46, 44, 180, 0, 205, 184, 0, 208, 79, 42]
abbrev dktX0_reckonsWays_4 : List UInt8 := dkwX0_reckonsWays_4 ++ dktX0_reckonsWays_5
def dkwX0_reckonsWays_3 : List UInt8 := [27, 185, 0, 185, 2, 0, 192, 0, 197, 77, 42, 180, 0, 68, 44, 180, 0, 199, 50, 44, 180, 0, 202, 42]
abbrev dktX0_reckonsWays_3 : List UInt8 := dkwX0_reckonsWays_3 ++ dktX0_reckonsWays_4
def dkwX0_reckonsWays_2 : List UInt8 := [60, 27, 42, 180, 0, 31, 180, 0, 194, 185, 0, 168, 1, 0, 162, 0, 89, 42, 180, 0, 31, 180, 0, 194]
abbrev dktX0_reckonsWays_2 : List UInt8 := dkwX0_reckonsWays_2 ++ dktX0_reckonsWays_3
def dkwX0_reckonsWays_1 : List UInt8 := [28, 160, 0, 7, 3, 167, 0, 5, 18, 193, 79, 132, 2, 1, 167, 255, 228, 132, 1, 1, 167, 255, 214, 3]
abbrev dktX0_reckonsWays_1 : List UInt8 := dkwX0_reckonsWays_1 ++ dktX0_reckonsWays_2
def dkwX0_reckonsWays_0 : List UInt8 := [3, 60, 27, 16, 8, 162, 0, 42, 3, 61, 28, 16, 8, 162, 0, 28, 42, 180, 0, 68, 27, 50, 28, 27]
abbrev dktX0_reckonsWays_0 : List UInt8 := dkwX0_reckonsWays_0 ++ dktX0_reckonsWays_1
theorem dksX0_reckonsWays_0 : cX0_reckonsWays.data.toList.drop 0 = dktX0_reckonsWays_0 := by decide +kernel
theorem dksX0_reckonsWays_1 : cX0_reckonsWays.data.toList.drop 24 = dktX0_reckonsWays_1 := dk_seg dksX0_reckonsWays_0 24 rfl rfl
theorem dksX0_reckonsWays_2 : cX0_reckonsWays.data.toList.drop 48 = dktX0_reckonsWays_2 := dk_seg dksX0_reckonsWays_1 24 rfl rfl
theorem dksX0_reckonsWays_3 : cX0_reckonsWays.data.toList.drop 72 = dktX0_reckonsWays_3 := dk_seg dksX0_reckonsWays_2 24 rfl rfl
theorem dksX0_reckonsWays_4 : cX0_reckonsWays.data.toList.drop 96 = dktX0_reckonsWays_4 := dk_seg dksX0_reckonsWays_3 24 rfl rfl
theorem dksX0_reckonsWays_5 : cX0_reckonsWays.data.toList.drop 118 = dktX0_reckonsWays_5 := dk_seg dksX0_reckonsWays_4 22 rfl rfl
theorem dksX0_reckonsWays_6 : cX0_reckonsWays.data.toList.drop 140 = dktX0_reckonsWays_6 := dk_seg dksX0_reckonsWays_5 22 rfl rfl
theorem dksX0_reckonsWays_7 : cX0_reckonsWays.data.toList.drop 164 = dktX0_reckonsWays_7 := dk_seg dksX0_reckonsWays_6 24 rfl rfl
theorem dksX0_reckonsWays_8 : cX0_reckonsWays.data.toList.drop 188 = dktX0_reckonsWays_8 := dk_seg dksX0_reckonsWays_7 24 rfl rfl
theorem dksX0_reckonsWays_9 : cX0_reckonsWays.data.toList.drop 211 = dktX0_reckonsWays_9 := dk_seg dksX0_reckonsWays_8 23 rfl rfl
theorem dX0_reckonsWays_0 : decode cX0_reckonsWays 0 = .ok (.iconst 0, 1) := dk_3 (dk_at dksX0_reckonsWays_0 0 rfl rfl)
theorem dX0_reckonsWays_1 : decode cX0_reckonsWays 1 = .ok (.istore_n 1, 1) := dk_60 (dk_at dksX0_reckonsWays_0 1 rfl rfl)
theorem dX0_reckonsWays_2 : decode cX0_reckonsWays 2 = .ok (.iload_n 1, 1) := dk_27 (dk_at dksX0_reckonsWays_0 2 rfl rfl)
theorem dX0_reckonsWays_3 : decode cX0_reckonsWays 3 = .ok (.bipush 8, 2) := dk_16 8 (dk_at dksX0_reckonsWays_0 3 rfl rfl)
theorem dX0_reckonsWays_5 : decode cX0_reckonsWays 5 = .ok (.if_icmp .ge 42, 3) := dk_162 0 42 (dk_at dksX0_reckonsWays_0 5 rfl rfl)
theorem dX0_reckonsWays_8 : decode cX0_reckonsWays 8 = .ok (.iconst 0, 1) := dk_3 (dk_at dksX0_reckonsWays_0 8 rfl rfl)
theorem dX0_reckonsWays_9 : decode cX0_reckonsWays 9 = .ok (.istore_n 2, 1) := dk_61 (dk_at dksX0_reckonsWays_0 9 rfl rfl)
theorem dX0_reckonsWays_10 : decode cX0_reckonsWays 10 = .ok (.iload_n 2, 1) := dk_28 (dk_at dksX0_reckonsWays_0 10 rfl rfl)
theorem dX0_reckonsWays_11 : decode cX0_reckonsWays 11 = .ok (.bipush 8, 2) := dk_16 8 (dk_at dksX0_reckonsWays_0 11 rfl rfl)
theorem dX0_reckonsWays_13 : decode cX0_reckonsWays 13 = .ok (.if_icmp .ge 28, 3) := dk_162 0 28 (dk_at dksX0_reckonsWays_0 13 rfl rfl)
theorem dX0_reckonsWays_16 : decode cX0_reckonsWays 16 = .ok (.aload_n 0, 1) := dk_42 (dk_at dksX0_reckonsWays_0 16 rfl rfl)
theorem dX0_reckonsWays_17 : decode cX0_reckonsWays 17 = .ok (.getfield 68, 3) := dk_180 0 68 (dk_at dksX0_reckonsWays_0 17 rfl rfl)
theorem dX0_reckonsWays_20 : decode cX0_reckonsWays 20 = .ok (.iload_n 1, 1) := dk_27 (dk_at dksX0_reckonsWays_0 20 rfl rfl)
theorem dX0_reckonsWays_21 : decode cX0_reckonsWays 21 = .ok (.aaload, 1) := dk_50 (dk_at dksX0_reckonsWays_0 21 rfl rfl)
theorem dX0_reckonsWays_22 : decode cX0_reckonsWays 22 = .ok (.iload_n 2, 1) := dk_28 (dk_at dksX0_reckonsWays_0 22 rfl rfl)
theorem dX0_reckonsWays_23 : decode cX0_reckonsWays 23 = .ok (.iload_n 1, 1) := dk_27 (dk_at dksX0_reckonsWays_0 23 rfl rfl)
theorem dX0_reckonsWays_24 : decode cX0_reckonsWays 24 = .ok (.iload_n 2, 1) := dk_28 (dk_at dksX0_reckonsWays_1 0 rfl rfl)
theorem dX0_reckonsWays_25 : decode cX0_reckonsWays 25 = .ok (.if_icmp .ne 7, 3) := dk_160 0 7 (dk_at dksX0_reckonsWays_1 1 rfl rfl)
theorem dX0_reckonsWays_28 : decode cX0_reckonsWays 28 = .ok (.iconst 0, 1) := dk_3 (dk_at dksX0_reckonsWays_1 4 rfl rfl)
theorem dX0_reckonsWays_29 : decode cX0_reckonsWays 29 = .ok (.goto 5, 3) := dk_167 0 5 (dk_at dksX0_reckonsWays_1 5 rfl rfl)
theorem dX0_reckonsWays_32 : decode cX0_reckonsWays 32 = .ok (.ldc 193, 2) := dk_18 193 (dk_at dksX0_reckonsWays_1 8 rfl rfl)
theorem dX0_reckonsWays_34 : decode cX0_reckonsWays 34 = .ok (.iastore, 1) := dk_79 (dk_at dksX0_reckonsWays_1 10 rfl rfl)
theorem dX0_reckonsWays_35 : decode cX0_reckonsWays 35 = .ok (.iinc 2 1, 3) := dk_132 2 1 (dk_at dksX0_reckonsWays_1 11 rfl rfl)
theorem dX0_reckonsWays_38 : decode cX0_reckonsWays 38 = .ok (.goto (-28), 3) := dk_167 255 228 (dk_at dksX0_reckonsWays_1 14 rfl rfl)
theorem dX0_reckonsWays_41 : decode cX0_reckonsWays 41 = .ok (.iinc 1 1, 3) := dk_132 1 1 (dk_at dksX0_reckonsWays_1 17 rfl rfl)
theorem dX0_reckonsWays_44 : decode cX0_reckonsWays 44 = .ok (.goto (-42), 3) := dk_167 255 214 (dk_at dksX0_reckonsWays_1 20 rfl rfl)
theorem dX0_reckonsWays_47 : decode cX0_reckonsWays 47 = .ok (.iconst 0, 1) := dk_3 (dk_at dksX0_reckonsWays_1 23 rfl rfl)
theorem dX0_reckonsWays_48 : decode cX0_reckonsWays 48 = .ok (.istore_n 1, 1) := dk_60 (dk_at dksX0_reckonsWays_2 0 rfl rfl)
theorem dX0_reckonsWays_49 : decode cX0_reckonsWays 49 = .ok (.iload_n 1, 1) := dk_27 (dk_at dksX0_reckonsWays_2 1 rfl rfl)
theorem dX0_reckonsWays_50 : decode cX0_reckonsWays 50 = .ok (.aload_n 0, 1) := dk_42 (dk_at dksX0_reckonsWays_2 2 rfl rfl)
theorem dX0_reckonsWays_51 : decode cX0_reckonsWays 51 = .ok (.getfield 31, 3) := dk_180 0 31 (dk_at dksX0_reckonsWays_2 3 rfl rfl)
theorem dX0_reckonsWays_54 : decode cX0_reckonsWays 54 = .ok (.getfield 194, 3) := dk_180 0 194 (dk_at dksX0_reckonsWays_2 6 rfl rfl)
theorem dX0_reckonsWays_57 : decode cX0_reckonsWays 57 = .ok (.invokeinterface 168 1, 5) := by decide +kernel
theorem dX0_reckonsWays_62 : decode cX0_reckonsWays 62 = .ok (.if_icmp .ge 89, 3) := dk_162 0 89 (dk_at dksX0_reckonsWays_2 14 rfl rfl)
theorem dX0_reckonsWays_65 : decode cX0_reckonsWays 65 = .ok (.aload_n 0, 1) := dk_42 (dk_at dksX0_reckonsWays_2 17 rfl rfl)
theorem dX0_reckonsWays_66 : decode cX0_reckonsWays 66 = .ok (.getfield 31, 3) := dk_180 0 31 (dk_at dksX0_reckonsWays_2 18 rfl rfl)
theorem dX0_reckonsWays_69 : decode cX0_reckonsWays 69 = .ok (.getfield 194, 3) := dk_180 0 194 (dk_at dksX0_reckonsWays_2 21 rfl rfl)
theorem dX0_reckonsWays_72 : decode cX0_reckonsWays 72 = .ok (.iload_n 1, 1) := dk_27 (dk_at dksX0_reckonsWays_3 0 rfl rfl)
theorem dX0_reckonsWays_73 : decode cX0_reckonsWays 73 = .ok (.invokeinterface 185 2, 5) := by decide +kernel
theorem dX0_reckonsWays_78 : decode cX0_reckonsWays 78 = .ok (.checkcast 197, 3) := dk_192 0 197 (dk_at dksX0_reckonsWays_3 6 rfl rfl)
theorem dX0_reckonsWays_81 : decode cX0_reckonsWays 81 = .ok (.astore_n 2, 1) := dk_77 (dk_at dksX0_reckonsWays_3 9 rfl rfl)
theorem dX0_reckonsWays_82 : decode cX0_reckonsWays 82 = .ok (.aload_n 0, 1) := dk_42 (dk_at dksX0_reckonsWays_3 10 rfl rfl)
theorem dX0_reckonsWays_83 : decode cX0_reckonsWays 83 = .ok (.getfield 68, 3) := dk_180 0 68 (dk_at dksX0_reckonsWays_3 11 rfl rfl)
theorem dX0_reckonsWays_86 : decode cX0_reckonsWays 86 = .ok (.aload_n 2, 1) := dk_44 (dk_at dksX0_reckonsWays_3 14 rfl rfl)
theorem dX0_reckonsWays_87 : decode cX0_reckonsWays 87 = .ok (.getfield 199, 3) := dk_180 0 199 (dk_at dksX0_reckonsWays_3 15 rfl rfl)
theorem dX0_reckonsWays_90 : decode cX0_reckonsWays 90 = .ok (.aaload, 1) := dk_50 (dk_at dksX0_reckonsWays_3 18 rfl rfl)
theorem dX0_reckonsWays_91 : decode cX0_reckonsWays 91 = .ok (.aload_n 2, 1) := dk_44 (dk_at dksX0_reckonsWays_3 19 rfl rfl)
theorem dX0_reckonsWays_92 : decode cX0_reckonsWays 92 = .ok (.getfield 202, 3) := dk_180 0 202 (dk_at dksX0_reckonsWays_3 20 rfl rfl)
theorem dX0_reckonsWays_95 : decode cX0_reckonsWays 95 = .ok (.aload_n 0, 1) := dk_42 (dk_at dksX0_reckonsWays_3 23 rfl rfl)
theorem dX0_reckonsWays_96 : decode cX0_reckonsWays 96 = .ok (.getfield 68, 3) := dk_180 0 68 (dk_at dksX0_reckonsWays_4 0 rfl rfl)
theorem dX0_reckonsWays_99 : decode cX0_reckonsWays 99 = .ok (.aload_n 2, 1) := dk_44 (dk_at dksX0_reckonsWays_4 3 rfl rfl)
theorem dX0_reckonsWays_100 : decode cX0_reckonsWays 100 = .ok (.getfield 199, 3) := dk_180 0 199 (dk_at dksX0_reckonsWays_4 4 rfl rfl)
theorem dX0_reckonsWays_103 : decode cX0_reckonsWays 103 = .ok (.aaload, 1) := dk_50 (dk_at dksX0_reckonsWays_4 7 rfl rfl)
theorem dX0_reckonsWays_104 : decode cX0_reckonsWays 104 = .ok (.aload_n 2, 1) := dk_44 (dk_at dksX0_reckonsWays_4 8 rfl rfl)
theorem dX0_reckonsWays_105 : decode cX0_reckonsWays 105 = .ok (.getfield 202, 3) := dk_180 0 202 (dk_at dksX0_reckonsWays_4 9 rfl rfl)
theorem dX0_reckonsWays_108 : decode cX0_reckonsWays 108 = .ok (.iaload, 1) := dk_46 (dk_at dksX0_reckonsWays_4 12 rfl rfl)
theorem dX0_reckonsWays_109 : decode cX0_reckonsWays 109 = .ok (.aload_n 2, 1) := dk_44 (dk_at dksX0_reckonsWays_4 13 rfl rfl)
theorem dX0_reckonsWays_110 : decode cX0_reckonsWays 110 = .ok (.getfield 205, 3) := dk_180 0 205 (dk_at dksX0_reckonsWays_4 14 rfl rfl)
theorem dX0_reckonsWays_113 : decode cX0_reckonsWays 113 = .ok (.invokestatic 208, 3) := dk_184 0 208 (dk_at dksX0_reckonsWays_4 17 rfl rfl)
theorem dX0_reckonsWays_116 : decode cX0_reckonsWays 116 = .ok (.iastore, 1) := dk_79 (dk_at dksX0_reckonsWays_4 20 rfl rfl)
theorem dX0_reckonsWays_117 : decode cX0_reckonsWays 117 = .ok (.aload_n 0, 1) := dk_42 (dk_at dksX0_reckonsWays_4 21 rfl rfl)
theorem dX0_reckonsWays_118 : decode cX0_reckonsWays 118 = .ok (.getfield 68, 3) := dk_180 0 68 (dk_at dksX0_reckonsWays_5 0 rfl rfl)
theorem dX0_reckonsWays_121 : decode cX0_reckonsWays 121 = .ok (.aload_n 2, 1) := dk_44 (dk_at dksX0_reckonsWays_5 3 rfl rfl)
theorem dX0_reckonsWays_122 : decode cX0_reckonsWays 122 = .ok (.getfield 202, 3) := dk_180 0 202 (dk_at dksX0_reckonsWays_5 4 rfl rfl)
theorem dX0_reckonsWays_125 : decode cX0_reckonsWays 125 = .ok (.aaload, 1) := dk_50 (dk_at dksX0_reckonsWays_5 7 rfl rfl)
theorem dX0_reckonsWays_126 : decode cX0_reckonsWays 126 = .ok (.aload_n 2, 1) := dk_44 (dk_at dksX0_reckonsWays_5 8 rfl rfl)
theorem dX0_reckonsWays_127 : decode cX0_reckonsWays 127 = .ok (.getfield 199, 3) := dk_180 0 199 (dk_at dksX0_reckonsWays_5 9 rfl rfl)
theorem dX0_reckonsWays_130 : decode cX0_reckonsWays 130 = .ok (.aload_n 0, 1) := dk_42 (dk_at dksX0_reckonsWays_5 12 rfl rfl)
theorem dX0_reckonsWays_131 : decode cX0_reckonsWays 131 = .ok (.getfield 68, 3) := dk_180 0 68 (dk_at dksX0_reckonsWays_5 13 rfl rfl)
theorem dX0_reckonsWays_134 : decode cX0_reckonsWays 134 = .ok (.aload_n 2, 1) := dk_44 (dk_at dksX0_reckonsWays_5 16 rfl rfl)
theorem dX0_reckonsWays_135 : decode cX0_reckonsWays 135 = .ok (.getfield 199, 3) := dk_180 0 199 (dk_at dksX0_reckonsWays_5 17 rfl rfl)
theorem dX0_reckonsWays_138 : decode cX0_reckonsWays 138 = .ok (.aaload, 1) := dk_50 (dk_at dksX0_reckonsWays_5 20 rfl rfl)
theorem dX0_reckonsWays_139 : decode cX0_reckonsWays 139 = .ok (.aload_n 2, 1) := dk_44 (dk_at dksX0_reckonsWays_5 21 rfl rfl)
theorem dX0_reckonsWays_140 : decode cX0_reckonsWays 140 = .ok (.getfield 202, 3) := dk_180 0 202 (dk_at dksX0_reckonsWays_6 0 rfl rfl)
theorem dX0_reckonsWays_143 : decode cX0_reckonsWays 143 = .ok (.iaload, 1) := dk_46 (dk_at dksX0_reckonsWays_6 3 rfl rfl)
theorem dX0_reckonsWays_144 : decode cX0_reckonsWays 144 = .ok (.iastore, 1) := dk_79 (dk_at dksX0_reckonsWays_6 4 rfl rfl)
theorem dX0_reckonsWays_145 : decode cX0_reckonsWays 145 = .ok (.iinc 1 1, 3) := dk_132 1 1 (dk_at dksX0_reckonsWays_6 5 rfl rfl)
theorem dX0_reckonsWays_148 : decode cX0_reckonsWays 148 = .ok (.goto (-99), 3) := dk_167 255 157 (dk_at dksX0_reckonsWays_6 8 rfl rfl)
theorem dX0_reckonsWays_151 : decode cX0_reckonsWays 151 = .ok (.iconst 0, 1) := dk_3 (dk_at dksX0_reckonsWays_6 11 rfl rfl)
theorem dX0_reckonsWays_152 : decode cX0_reckonsWays 152 = .ok (.istore_n 1, 1) := dk_60 (dk_at dksX0_reckonsWays_6 12 rfl rfl)
theorem dX0_reckonsWays_153 : decode cX0_reckonsWays 153 = .ok (.iload_n 1, 1) := dk_27 (dk_at dksX0_reckonsWays_6 13 rfl rfl)
theorem dX0_reckonsWays_154 : decode cX0_reckonsWays 154 = .ok (.bipush 8, 2) := dk_16 8 (dk_at dksX0_reckonsWays_6 14 rfl rfl)
theorem dX0_reckonsWays_156 : decode cX0_reckonsWays 156 = .ok (.if_icmp .ge 73, 3) := dk_162 0 73 (dk_at dksX0_reckonsWays_6 16 rfl rfl)
theorem dX0_reckonsWays_159 : decode cX0_reckonsWays 159 = .ok (.iconst 0, 1) := dk_3 (dk_at dksX0_reckonsWays_6 19 rfl rfl)
theorem dX0_reckonsWays_160 : decode cX0_reckonsWays 160 = .ok (.istore_n 2, 1) := dk_61 (dk_at dksX0_reckonsWays_6 20 rfl rfl)
theorem dX0_reckonsWays_161 : decode cX0_reckonsWays 161 = .ok (.iload_n 2, 1) := dk_28 (dk_at dksX0_reckonsWays_6 21 rfl rfl)
theorem dX0_reckonsWays_162 : decode cX0_reckonsWays 162 = .ok (.bipush 8, 2) := dk_16 8 (dk_at dksX0_reckonsWays_6 22 rfl rfl)
theorem dX0_reckonsWays_164 : decode cX0_reckonsWays 164 = .ok (.if_icmp .ge 59, 3) := dk_162 0 59 (dk_at dksX0_reckonsWays_7 0 rfl rfl)
theorem dX0_reckonsWays_167 : decode cX0_reckonsWays 167 = .ok (.iconst 0, 1) := dk_3 (dk_at dksX0_reckonsWays_7 3 rfl rfl)
theorem dX0_reckonsWays_168 : decode cX0_reckonsWays 168 = .ok (.istore_n 3, 1) := dk_62 (dk_at dksX0_reckonsWays_7 4 rfl rfl)
theorem dX0_reckonsWays_169 : decode cX0_reckonsWays 169 = .ok (.iload_n 3, 1) := dk_29 (dk_at dksX0_reckonsWays_7 5 rfl rfl)
theorem dX0_reckonsWays_170 : decode cX0_reckonsWays 170 = .ok (.bipush 8, 2) := dk_16 8 (dk_at dksX0_reckonsWays_7 6 rfl rfl)
theorem dX0_reckonsWays_172 : decode cX0_reckonsWays 172 = .ok (.if_icmp .ge 45, 3) := dk_162 0 45 (dk_at dksX0_reckonsWays_7 8 rfl rfl)
theorem dX0_reckonsWays_175 : decode cX0_reckonsWays 175 = .ok (.aload_n 0, 1) := dk_42 (dk_at dksX0_reckonsWays_7 11 rfl rfl)
theorem dX0_reckonsWays_176 : decode cX0_reckonsWays 176 = .ok (.getfield 68, 3) := dk_180 0 68 (dk_at dksX0_reckonsWays_7 12 rfl rfl)
theorem dX0_reckonsWays_179 : decode cX0_reckonsWays 179 = .ok (.iload_n 2, 1) := dk_28 (dk_at dksX0_reckonsWays_7 15 rfl rfl)
theorem dX0_reckonsWays_180 : decode cX0_reckonsWays 180 = .ok (.aaload, 1) := dk_50 (dk_at dksX0_reckonsWays_7 16 rfl rfl)
theorem dX0_reckonsWays_181 : decode cX0_reckonsWays 181 = .ok (.iload_n 3, 1) := dk_29 (dk_at dksX0_reckonsWays_7 17 rfl rfl)
theorem dX0_reckonsWays_182 : decode cX0_reckonsWays 182 = .ok (.aload_n 0, 1) := dk_42 (dk_at dksX0_reckonsWays_7 18 rfl rfl)
theorem dX0_reckonsWays_183 : decode cX0_reckonsWays 183 = .ok (.getfield 68, 3) := dk_180 0 68 (dk_at dksX0_reckonsWays_7 19 rfl rfl)
theorem dX0_reckonsWays_186 : decode cX0_reckonsWays 186 = .ok (.iload_n 2, 1) := dk_28 (dk_at dksX0_reckonsWays_7 22 rfl rfl)
theorem dX0_reckonsWays_187 : decode cX0_reckonsWays 187 = .ok (.aaload, 1) := dk_50 (dk_at dksX0_reckonsWays_7 23 rfl rfl)
theorem dX0_reckonsWays_188 : decode cX0_reckonsWays 188 = .ok (.iload_n 3, 1) := dk_29 (dk_at dksX0_reckonsWays_8 0 rfl rfl)
theorem dX0_reckonsWays_189 : decode cX0_reckonsWays 189 = .ok (.iaload, 1) := dk_46 (dk_at dksX0_reckonsWays_8 1 rfl rfl)
theorem dX0_reckonsWays_190 : decode cX0_reckonsWays 190 = .ok (.aload_n 0, 1) := dk_42 (dk_at dksX0_reckonsWays_8 2 rfl rfl)
theorem dX0_reckonsWays_191 : decode cX0_reckonsWays 191 = .ok (.getfield 68, 3) := dk_180 0 68 (dk_at dksX0_reckonsWays_8 3 rfl rfl)
theorem dX0_reckonsWays_194 : decode cX0_reckonsWays 194 = .ok (.iload_n 2, 1) := dk_28 (dk_at dksX0_reckonsWays_8 6 rfl rfl)
theorem dX0_reckonsWays_195 : decode cX0_reckonsWays 195 = .ok (.aaload, 1) := dk_50 (dk_at dksX0_reckonsWays_8 7 rfl rfl)
theorem dX0_reckonsWays_196 : decode cX0_reckonsWays 196 = .ok (.iload_n 1, 1) := dk_27 (dk_at dksX0_reckonsWays_8 8 rfl rfl)
theorem dX0_reckonsWays_197 : decode cX0_reckonsWays 197 = .ok (.iaload, 1) := dk_46 (dk_at dksX0_reckonsWays_8 9 rfl rfl)
theorem dX0_reckonsWays_198 : decode cX0_reckonsWays 198 = .ok (.aload_n 0, 1) := dk_42 (dk_at dksX0_reckonsWays_8 10 rfl rfl)
theorem dX0_reckonsWays_199 : decode cX0_reckonsWays 199 = .ok (.getfield 68, 3) := dk_180 0 68 (dk_at dksX0_reckonsWays_8 11 rfl rfl)
theorem dX0_reckonsWays_202 : decode cX0_reckonsWays 202 = .ok (.iload_n 1, 1) := dk_27 (dk_at dksX0_reckonsWays_8 14 rfl rfl)
theorem dX0_reckonsWays_203 : decode cX0_reckonsWays 203 = .ok (.aaload, 1) := dk_50 (dk_at dksX0_reckonsWays_8 15 rfl rfl)
theorem dX0_reckonsWays_204 : decode cX0_reckonsWays 204 = .ok (.iload_n 3, 1) := dk_29 (dk_at dksX0_reckonsWays_8 16 rfl rfl)
theorem dX0_reckonsWays_205 : decode cX0_reckonsWays 205 = .ok (.iaload, 1) := dk_46 (dk_at dksX0_reckonsWays_8 17 rfl rfl)
theorem dX0_reckonsWays_206 : decode cX0_reckonsWays 206 = .ok (.iadd, 1) := dk_96 (dk_at dksX0_reckonsWays_8 18 rfl rfl)
theorem dX0_reckonsWays_207 : decode cX0_reckonsWays 207 = .ok (.invokestatic 208, 3) := dk_184 0 208 (dk_at dksX0_reckonsWays_8 19 rfl rfl)
theorem dX0_reckonsWays_210 : decode cX0_reckonsWays 210 = .ok (.iastore, 1) := dk_79 (dk_at dksX0_reckonsWays_8 22 rfl rfl)
theorem dX0_reckonsWays_211 : decode cX0_reckonsWays 211 = .ok (.iinc 3 1, 3) := dk_132 3 1 (dk_at dksX0_reckonsWays_9 0 rfl rfl)
theorem dX0_reckonsWays_214 : decode cX0_reckonsWays 214 = .ok (.goto (-45), 3) := dk_167 255 211 (dk_at dksX0_reckonsWays_9 3 rfl rfl)
theorem dX0_reckonsWays_217 : decode cX0_reckonsWays 217 = .ok (.iinc 2 1, 3) := dk_132 2 1 (dk_at dksX0_reckonsWays_9 6 rfl rfl)
theorem dX0_reckonsWays_220 : decode cX0_reckonsWays 220 = .ok (.goto (-59), 3) := dk_167 255 197 (dk_at dksX0_reckonsWays_9 9 rfl rfl)
theorem dX0_reckonsWays_223 : decode cX0_reckonsWays 223 = .ok (.iinc 1 1, 3) := dk_132 1 1 (dk_at dksX0_reckonsWays_9 12 rfl rfl)
theorem dX0_reckonsWays_226 : decode cX0_reckonsWays 226 = .ok (.goto (-73), 3) := dk_167 255 183 (dk_at dksX0_reckonsWays_9 15 rfl rfl)
theorem dX0_reckonsWays_229 : decode cX0_reckonsWays 229 = .ok (.return_, 1) := dk_177 (dk_at dksX0_reckonsWays_9 18 rfl rfl)
abbrev cX0_feed : ByteArray := prog_1_method_10_code
def yX0_feed : MethodName := ⟨RX0, "feed", "(IIIII)I"⟩
def dkwX0_feed_2 : List UInt8 := [180, 0, 122, 172]
abbrev dktX0_feed_2 : List UInt8 := dkwX0_feed_2 ++ []
def dkwX0_feed_1 : List UInt8 := [42, 28, 182, 0, 129, 42, 29, 182, 0, 129, 42, 21, 4, 182, 0, 129, 42, 21, 5, 182, 0, 129, 42]
abbrev dktX0_feed_1 : List UInt8 := dkwX0_feed_1 ++ dktX0_feed_2
def dkwX0_feed_0 : List UInt8 := [42, 180, 0, 122, 16, 20, 96, 17, 6, 64, 164, 0, 9, 42, 3, 182, 0, 125, 172, 42, 27, 182, 0, 129]
abbrev dktX0_feed_0 : List UInt8 := dkwX0_feed_0 ++ dktX0_feed_1
theorem dksX0_feed_0 : cX0_feed.data.toList.drop 0 = dktX0_feed_0 := by decide +kernel
theorem dksX0_feed_1 : cX0_feed.data.toList.drop 24 = dktX0_feed_1 := dk_seg dksX0_feed_0 24 rfl rfl
theorem dksX0_feed_2 : cX0_feed.data.toList.drop 47 = dktX0_feed_2 := dk_seg dksX0_feed_1 23 rfl rfl
theorem dX0_feed_0 : decode cX0_feed 0 = .ok (.aload_n 0, 1) := dk_42 (dk_at dksX0_feed_0 0 rfl rfl)
theorem dX0_feed_1 : decode cX0_feed 1 = .ok (.getfield 122, 3) := dk_180 0 122 (dk_at dksX0_feed_0 1 rfl rfl)
theorem dX0_feed_4 : decode cX0_feed 4 = .ok (.bipush 20, 2) := dk_16 20 (dk_at dksX0_feed_0 4 rfl rfl)
theorem dX0_feed_6 : decode cX0_feed 6 = .ok (.iadd, 1) := dk_96 (dk_at dksX0_feed_0 6 rfl rfl)
theorem dX0_feed_7 : decode cX0_feed 7 = .ok (.sipush 1600, 3) := dk_17 6 64 (dk_at dksX0_feed_0 7 rfl rfl)
theorem dX0_feed_10 : decode cX0_feed 10 = .ok (.if_icmp .le 9, 3) := dk_164 0 9 (dk_at dksX0_feed_0 10 rfl rfl)
theorem dX0_feed_13 : decode cX0_feed 13 = .ok (.aload_n 0, 1) := dk_42 (dk_at dksX0_feed_0 13 rfl rfl)
theorem dX0_feed_14 : decode cX0_feed 14 = .ok (.iconst 0, 1) := dk_3 (dk_at dksX0_feed_0 14 rfl rfl)
theorem dX0_feed_15 : decode cX0_feed 15 = .ok (.invokevirtual 125, 3) := dk_182 0 125 (dk_at dksX0_feed_0 15 rfl rfl)
theorem dX0_feed_18 : decode cX0_feed 18 = .ok (.ireturn, 1) := dk_172 (dk_at dksX0_feed_0 18 rfl rfl)
theorem dX0_feed_19 : decode cX0_feed 19 = .ok (.aload_n 0, 1) := dk_42 (dk_at dksX0_feed_0 19 rfl rfl)
theorem dX0_feed_20 : decode cX0_feed 20 = .ok (.iload_n 1, 1) := dk_27 (dk_at dksX0_feed_0 20 rfl rfl)
theorem dX0_feed_21 : decode cX0_feed 21 = .ok (.invokevirtual 129, 3) := dk_182 0 129 (dk_at dksX0_feed_0 21 rfl rfl)
theorem dX0_feed_24 : decode cX0_feed 24 = .ok (.aload_n 0, 1) := dk_42 (dk_at dksX0_feed_1 0 rfl rfl)
theorem dX0_feed_25 : decode cX0_feed 25 = .ok (.iload_n 2, 1) := dk_28 (dk_at dksX0_feed_1 1 rfl rfl)
theorem dX0_feed_26 : decode cX0_feed 26 = .ok (.invokevirtual 129, 3) := dk_182 0 129 (dk_at dksX0_feed_1 2 rfl rfl)
theorem dX0_feed_29 : decode cX0_feed 29 = .ok (.aload_n 0, 1) := dk_42 (dk_at dksX0_feed_1 5 rfl rfl)
theorem dX0_feed_30 : decode cX0_feed 30 = .ok (.iload_n 3, 1) := dk_29 (dk_at dksX0_feed_1 6 rfl rfl)
theorem dX0_feed_31 : decode cX0_feed 31 = .ok (.invokevirtual 129, 3) := dk_182 0 129 (dk_at dksX0_feed_1 7 rfl rfl)
theorem dX0_feed_34 : decode cX0_feed 34 = .ok (.aload_n 0, 1) := dk_42 (dk_at dksX0_feed_1 10 rfl rfl)
theorem dX0_feed_35 : decode cX0_feed 35 = .ok (.iload 4, 2) := dk_21 4 (dk_at dksX0_feed_1 11 rfl rfl)
theorem dX0_feed_37 : decode cX0_feed 37 = .ok (.invokevirtual 129, 3) := dk_182 0 129 (dk_at dksX0_feed_1 13 rfl rfl)
theorem dX0_feed_40 : decode cX0_feed 40 = .ok (.aload_n 0, 1) := dk_42 (dk_at dksX0_feed_1 16 rfl rfl)
theorem dX0_feed_41 : decode cX0_feed 41 = .ok (.iload 5, 2) := dk_21 5 (dk_at dksX0_feed_1 17 rfl rfl)
theorem dX0_feed_43 : decode cX0_feed 43 = .ok (.invokevirtual 129, 3) := dk_182 0 129 (dk_at dksX0_feed_1 19 rfl rfl)
theorem dX0_feed_46 : decode cX0_feed 46 = .ok (.aload_n 0, 1) := dk_42 (dk_at dksX0_feed_1 22 rfl rfl)
theorem dX0_feed_47 : decode cX0_feed 47 = .ok (.getfield 122, 3) := dk_180 0 122 (dk_at dksX0_feed_2 0 rfl rfl)
theorem dX0_feed_50 : decode cX0_feed 50 = .ok (.ireturn, 1) := dk_172 (dk_at dksX0_feed_2 3 rfl rfl)
abbrev cX0_refuses : ByteArray := prog_1_method_8_code
def yX0_refuses : MethodName := ⟨RX0, "refuses", "(I)I"⟩
def dkwX0_refuses_0 : List UInt8 := [42, 180, 0, 62, 27, 92, 46, 4, 96, 79, 2, 172]
abbrev dktX0_refuses_0 : List UInt8 := dkwX0_refuses_0 ++ []
theorem dksX0_refuses_0 : cX0_refuses.data.toList.drop 0 = dktX0_refuses_0 := by decide +kernel
theorem dX0_refuses_0 : decode cX0_refuses 0 = .ok (.aload_n 0, 1) := dk_42 (dk_at dksX0_refuses_0 0 rfl rfl)
theorem dX0_refuses_1 : decode cX0_refuses 1 = .ok (.getfield 62, 3) := dk_180 0 62 (dk_at dksX0_refuses_0 1 rfl rfl)
theorem dX0_refuses_4 : decode cX0_refuses 4 = .ok (.iload_n 1, 1) := dk_27 (dk_at dksX0_refuses_0 4 rfl rfl)
theorem dX0_refuses_5 : decode cX0_refuses 5 = .ok (.dup2, 1) := dk_92 (dk_at dksX0_refuses_0 5 rfl rfl)
theorem dX0_refuses_6 : decode cX0_refuses 6 = .ok (.iaload, 1) := dk_46 (dk_at dksX0_refuses_0 6 rfl rfl)
theorem dX0_refuses_7 : decode cX0_refuses 7 = .ok (.iconst 1, 1) := dk_4 (dk_at dksX0_refuses_0 7 rfl rfl)
theorem dX0_refuses_8 : decode cX0_refuses 8 = .ok (.iadd, 1) := dk_96 (dk_at dksX0_refuses_0 8 rfl rfl)
theorem dX0_refuses_9 : decode cX0_refuses 9 = .ok (.iastore, 1) := dk_79 (dk_at dksX0_refuses_0 9 rfl rfl)
theorem dX0_refuses_10 : decode cX0_refuses 10 = .ok (.iconst (-1), 1) := dk_2 (dk_at dksX0_refuses_0 10 rfl rfl)
theorem dX0_refuses_11 : decode cX0_refuses 11 = .ok (.ireturn, 1) := dk_172 (dk_at dksX0_refuses_0 11 rfl rfl)
abbrev cX0_lays : ByteArray := prog_1_method_9_code
def yX0_lays : MethodName := ⟨RX0, "lays", "(I)V"⟩
def dkwX0_lays_1 : List UInt8 := [122, 145, 84, 132, 2, 248, 167, 255, 229, 177]
abbrev dktX0_lays_1 : List UInt8 := dkwX0_lays_1 ++ []
def dkwX0_lays_0 : List UInt8 := [16, 24, 61, 28, 155, 0, 29, 42, 180, 0, 35, 42, 89, 180, 0, 122, 90, 4, 96, 181, 0, 122, 27, 28]
abbrev dktX0_lays_0 : List UInt8 := dkwX0_lays_0 ++ dktX0_lays_1
theorem dksX0_lays_0 : cX0_lays.data.toList.drop 0 = dktX0_lays_0 := by decide +kernel
theorem dksX0_lays_1 : cX0_lays.data.toList.drop 24 = dktX0_lays_1 := dk_seg dksX0_lays_0 24 rfl rfl
theorem dX0_lays_0 : decode cX0_lays 0 = .ok (.bipush 24, 2) := dk_16 24 (dk_at dksX0_lays_0 0 rfl rfl)
theorem dX0_lays_2 : decode cX0_lays 2 = .ok (.istore_n 2, 1) := dk_61 (dk_at dksX0_lays_0 2 rfl rfl)
theorem dX0_lays_3 : decode cX0_lays 3 = .ok (.iload_n 2, 1) := dk_28 (dk_at dksX0_lays_0 3 rfl rfl)
theorem dX0_lays_4 : decode cX0_lays 4 = .ok (.ifCond .lt 29, 3) := dk_155 0 29 (dk_at dksX0_lays_0 4 rfl rfl)
theorem dX0_lays_7 : decode cX0_lays 7 = .ok (.aload_n 0, 1) := dk_42 (dk_at dksX0_lays_0 7 rfl rfl)
theorem dX0_lays_8 : decode cX0_lays 8 = .ok (.getfield 35, 3) := dk_180 0 35 (dk_at dksX0_lays_0 8 rfl rfl)
theorem dX0_lays_11 : decode cX0_lays 11 = .ok (.aload_n 0, 1) := dk_42 (dk_at dksX0_lays_0 11 rfl rfl)
theorem dX0_lays_12 : decode cX0_lays 12 = .ok (.dup, 1) := dk_89 (dk_at dksX0_lays_0 12 rfl rfl)
theorem dX0_lays_13 : decode cX0_lays 13 = .ok (.getfield 122, 3) := dk_180 0 122 (dk_at dksX0_lays_0 13 rfl rfl)
theorem dX0_lays_16 : decode cX0_lays 16 = .ok (.dup_x1, 1) := dk_90 (dk_at dksX0_lays_0 16 rfl rfl)
theorem dX0_lays_17 : decode cX0_lays 17 = .ok (.iconst 1, 1) := dk_4 (dk_at dksX0_lays_0 17 rfl rfl)
theorem dX0_lays_18 : decode cX0_lays 18 = .ok (.iadd, 1) := dk_96 (dk_at dksX0_lays_0 18 rfl rfl)
theorem dX0_lays_19 : decode cX0_lays 19 = .ok (.putfield 122, 3) := dk_181 0 122 (dk_at dksX0_lays_0 19 rfl rfl)
theorem dX0_lays_22 : decode cX0_lays 22 = .ok (.iload_n 1, 1) := dk_27 (dk_at dksX0_lays_0 22 rfl rfl)
theorem dX0_lays_23 : decode cX0_lays 23 = .ok (.iload_n 2, 1) := dk_28 (dk_at dksX0_lays_0 23 rfl rfl)
theorem dX0_lays_24 : decode cX0_lays 24 = .ok (.ishr, 1) := dk_122 (dk_at dksX0_lays_1 0 rfl rfl)
theorem dX0_lays_25 : decode cX0_lays 25 = .ok (.i2b, 1) := dk_145 (dk_at dksX0_lays_1 1 rfl rfl)
theorem dX0_lays_26 : decode cX0_lays 26 = .ok (.bastore, 1) := dk_84 (dk_at dksX0_lays_1 2 rfl rfl)
theorem dX0_lays_27 : decode cX0_lays 27 = .ok (.iinc 2 (-8), 3) := dk_132 2 248 (dk_at dksX0_lays_1 3 rfl rfl)
theorem dX0_lays_30 : decode cX0_lays 30 = .ok (.goto (-27), 3) := dk_167 255 229 (dk_at dksX0_lays_1 6 rfl rfl)
theorem dX0_lays_33 : decode cX0_lays 33 = .ok (.return_, 1) := dk_177 (dk_at dksX0_lays_1 9 rfl rfl)
abbrev cX0_end : ByteArray := prog_1_method_11_code
def yX0_end : MethodName := ⟨RX0, "end", "(I)Z"⟩
def dkwX0_end_1 : List UInt8 := [3, 172, 42, 27, 181, 0, 122, 4, 172]
abbrev dktX0_end_1 : List UInt8 := dkwX0_end_1 ++ []
def dkwX0_end_0 : List UInt8 := [27, 155, 0, 11, 27, 42, 180, 0, 122, 164, 0, 17, 42, 3, 182, 0, 125, 155, 0, 7, 4, 167, 0, 4]
abbrev dktX0_end_0 : List UInt8 := dkwX0_end_0 ++ dktX0_end_1
theorem dksX0_end_0 : cX0_end.data.toList.drop 0 = dktX0_end_0 := by decide +kernel
theorem dksX0_end_1 : cX0_end.data.toList.drop 24 = dktX0_end_1 := dk_seg dksX0_end_0 24 rfl rfl
theorem dX0_end_0 : decode cX0_end 0 = .ok (.iload_n 1, 1) := dk_27 (dk_at dksX0_end_0 0 rfl rfl)
theorem dX0_end_1 : decode cX0_end 1 = .ok (.ifCond .lt 11, 3) := dk_155 0 11 (dk_at dksX0_end_0 1 rfl rfl)
theorem dX0_end_4 : decode cX0_end 4 = .ok (.iload_n 1, 1) := dk_27 (dk_at dksX0_end_0 4 rfl rfl)
theorem dX0_end_5 : decode cX0_end 5 = .ok (.aload_n 0, 1) := dk_42 (dk_at dksX0_end_0 5 rfl rfl)
theorem dX0_end_6 : decode cX0_end 6 = .ok (.getfield 122, 3) := dk_180 0 122 (dk_at dksX0_end_0 6 rfl rfl)
theorem dX0_end_9 : decode cX0_end 9 = .ok (.if_icmp .le 17, 3) := dk_164 0 17 (dk_at dksX0_end_0 9 rfl rfl)
theorem dX0_end_12 : decode cX0_end 12 = .ok (.aload_n 0, 1) := dk_42 (dk_at dksX0_end_0 12 rfl rfl)
theorem dX0_end_13 : decode cX0_end 13 = .ok (.iconst 0, 1) := dk_3 (dk_at dksX0_end_0 13 rfl rfl)
theorem dX0_end_14 : decode cX0_end 14 = .ok (.invokevirtual 125, 3) := dk_182 0 125 (dk_at dksX0_end_0 14 rfl rfl)
theorem dX0_end_17 : decode cX0_end 17 = .ok (.ifCond .lt 7, 3) := dk_155 0 7 (dk_at dksX0_end_0 17 rfl rfl)
theorem dX0_end_20 : decode cX0_end 20 = .ok (.iconst 1, 1) := dk_4 (dk_at dksX0_end_0 20 rfl rfl)
theorem dX0_end_21 : decode cX0_end 21 = .ok (.goto 4, 3) := dk_167 0 4 (dk_at dksX0_end_0 21 rfl rfl)
theorem dX0_end_24 : decode cX0_end 24 = .ok (.iconst 0, 1) := dk_3 (dk_at dksX0_end_1 0 rfl rfl)
theorem dX0_end_25 : decode cX0_end 25 = .ok (.ireturn, 1) := dk_172 (dk_at dksX0_end_1 1 rfl rfl)
theorem dX0_end_26 : decode cX0_end 26 = .ok (.aload_n 0, 1) := dk_42 (dk_at dksX0_end_1 2 rfl rfl)
theorem dX0_end_27 : decode cX0_end 27 = .ok (.iload_n 1, 1) := dk_27 (dk_at dksX0_end_1 3 rfl rfl)
theorem dX0_end_28 : decode cX0_end 28 = .ok (.putfield 122, 3) := dk_181 0 122 (dk_at dksX0_end_1 4 rfl rfl)
theorem dX0_end_31 : decode cX0_end 31 = .ok (.iconst 1, 1) := dk_4 (dk_at dksX0_end_1 7 rfl rfl)
theorem dX0_end_32 : decode cX0_end 32 = .ok (.ireturn, 1) := dk_172 (dk_at dksX0_end_1 8 rfl rfl)
abbrev cX0_household : ByteArray := prog_1_method_13_code
def yX0_household : MethodName := ⟨RX0, "household", "()I"⟩
def dkwX0_household_3 : List UInt8 := [181, 0, 158, 42, 180, 0, 31, 180, 0, 161, 172]
abbrev dktX0_household_3 : List UInt8 := dkwX0_household_3 ++ []
def dkwX0_household_2 : List UInt8 := [4, 182, 0, 125, 172, 42, 182, 0, 81, 42, 180, 0, 74, 182, 0, 152, 42, 3, 181, 0, 155, 42, 3]
abbrev dktX0_household_2 : List UInt8 := dkwX0_household_2 ++ dktX0_household_3
def dkwX0_household_1 : List UInt8 := [181, 0, 31, 167, 0, 26, 76, 42, 43, 180, 0, 146, 181, 0, 133, 42, 43, 180, 0, 149, 181, 0, 39, 42]
abbrev dktX0_household_1 : List UInt8 := dkwX0_household_1 ++ dktX0_household_2
def dkwX0_household_0 : List UInt8 := [42, 3, 181, 0, 133, 42, 2, 181, 0, 39, 42, 42, 180, 0, 48, 42, 182, 0, 136, 182, 0, 140]
abbrev dktX0_household_0 : List UInt8 := dkwX0_household_0 ++ dktX0_household_1
theorem dksX0_household_0 : cX0_household.data.toList.drop 0 = dktX0_household_0 := by decide +kernel
theorem dksX0_household_1 : cX0_household.data.toList.drop 22 = dktX0_household_1 := dk_seg dksX0_household_0 22 rfl rfl
theorem dksX0_household_2 : cX0_household.data.toList.drop 46 = dktX0_household_2 := dk_seg dksX0_household_1 24 rfl rfl
theorem dksX0_household_3 : cX0_household.data.toList.drop 69 = dktX0_household_3 := dk_seg dksX0_household_2 23 rfl rfl
theorem dX0_household_0 : decode cX0_household 0 = .ok (.aload_n 0, 1) := dk_42 (dk_at dksX0_household_0 0 rfl rfl)
theorem dX0_household_1 : decode cX0_household 1 = .ok (.iconst 0, 1) := dk_3 (dk_at dksX0_household_0 1 rfl rfl)
theorem dX0_household_2 : decode cX0_household 2 = .ok (.putfield 133, 3) := dk_181 0 133 (dk_at dksX0_household_0 2 rfl rfl)
theorem dX0_household_5 : decode cX0_household 5 = .ok (.aload_n 0, 1) := dk_42 (dk_at dksX0_household_0 5 rfl rfl)
theorem dX0_household_6 : decode cX0_household 6 = .ok (.iconst (-1), 1) := dk_2 (dk_at dksX0_household_0 6 rfl rfl)
theorem dX0_household_7 : decode cX0_household 7 = .ok (.putfield 39, 3) := dk_181 0 39 (dk_at dksX0_household_0 7 rfl rfl)
theorem dX0_household_10 : decode cX0_household 10 = .ok (.aload_n 0, 1) := dk_42 (dk_at dksX0_household_0 10 rfl rfl)
theorem dX0_household_11 : decode cX0_household 11 = .ok (.aload_n 0, 1) := dk_42 (dk_at dksX0_household_0 11 rfl rfl)
theorem dX0_household_12 : decode cX0_household 12 = .ok (.getfield 48, 3) := dk_180 0 48 (dk_at dksX0_household_0 12 rfl rfl)
theorem dX0_household_15 : decode cX0_household 15 = .ok (.aload_n 0, 1) := dk_42 (dk_at dksX0_household_0 15 rfl rfl)
theorem dX0_household_16 : decode cX0_household 16 = .ok (.invokevirtual 136, 3) := dk_182 0 136 (dk_at dksX0_household_0 16 rfl rfl)
theorem dX0_household_19 : decode cX0_household 19 = .ok (.invokevirtual 140, 3) := dk_182 0 140 (dk_at dksX0_household_0 19 rfl rfl)
theorem dX0_household_22 : decode cX0_household 22 = .ok (.putfield 31, 3) := dk_181 0 31 (dk_at dksX0_household_1 0 rfl rfl)
theorem dX0_household_25 : decode cX0_household 25 = .ok (.goto 26, 3) := dk_167 0 26 (dk_at dksX0_household_1 3 rfl rfl)
theorem dX0_household_28 : decode cX0_household 28 = .ok (.astore_n 1, 1) := dk_76 (dk_at dksX0_household_1 6 rfl rfl)
theorem dX0_household_29 : decode cX0_household 29 = .ok (.aload_n 0, 1) := dk_42 (dk_at dksX0_household_1 7 rfl rfl)
theorem dX0_household_30 : decode cX0_household 30 = .ok (.aload_n 1, 1) := dk_43 (dk_at dksX0_household_1 8 rfl rfl)
theorem dX0_household_31 : decode cX0_household 31 = .ok (.getfield 146, 3) := dk_180 0 146 (dk_at dksX0_household_1 9 rfl rfl)
theorem dX0_household_34 : decode cX0_household 34 = .ok (.putfield 133, 3) := dk_181 0 133 (dk_at dksX0_household_1 12 rfl rfl)
theorem dX0_household_37 : decode cX0_household 37 = .ok (.aload_n 0, 1) := dk_42 (dk_at dksX0_household_1 15 rfl rfl)
theorem dX0_household_38 : decode cX0_household 38 = .ok (.aload_n 1, 1) := dk_43 (dk_at dksX0_household_1 16 rfl rfl)
theorem dX0_household_39 : decode cX0_household 39 = .ok (.getfield 149, 3) := dk_180 0 149 (dk_at dksX0_household_1 17 rfl rfl)
theorem dX0_household_42 : decode cX0_household 42 = .ok (.putfield 39, 3) := dk_181 0 39 (dk_at dksX0_household_1 20 rfl rfl)
theorem dX0_household_45 : decode cX0_household 45 = .ok (.aload_n 0, 1) := dk_42 (dk_at dksX0_household_1 23 rfl rfl)
theorem dX0_household_46 : decode cX0_household 46 = .ok (.iconst 1, 1) := dk_4 (dk_at dksX0_household_2 0 rfl rfl)
theorem dX0_household_47 : decode cX0_household 47 = .ok (.invokevirtual 125, 3) := dk_182 0 125 (dk_at dksX0_household_2 1 rfl rfl)
theorem dX0_household_50 : decode cX0_household 50 = .ok (.ireturn, 1) := dk_172 (dk_at dksX0_household_2 4 rfl rfl)
theorem dX0_household_51 : decode cX0_household 51 = .ok (.aload_n 0, 1) := dk_42 (dk_at dksX0_household_2 5 rfl rfl)
theorem dX0_household_52 : decode cX0_household 52 = .ok (.invokevirtual 81, 3) := dk_182 0 81 (dk_at dksX0_household_2 6 rfl rfl)
theorem dX0_household_55 : decode cX0_household 55 = .ok (.aload_n 0, 1) := dk_42 (dk_at dksX0_household_2 9 rfl rfl)
theorem dX0_household_56 : decode cX0_household 56 = .ok (.getfield 74, 3) := dk_180 0 74 (dk_at dksX0_household_2 10 rfl rfl)
theorem dX0_household_59 : decode cX0_household 59 = .ok (.invokevirtual 152, 3) := dk_182 0 152 (dk_at dksX0_household_2 13 rfl rfl)
theorem dX0_household_62 : decode cX0_household 62 = .ok (.aload_n 0, 1) := dk_42 (dk_at dksX0_household_2 16 rfl rfl)
theorem dX0_household_63 : decode cX0_household 63 = .ok (.iconst 0, 1) := dk_3 (dk_at dksX0_household_2 17 rfl rfl)
theorem dX0_household_64 : decode cX0_household 64 = .ok (.putfield 155, 3) := dk_181 0 155 (dk_at dksX0_household_2 18 rfl rfl)
theorem dX0_household_67 : decode cX0_household 67 = .ok (.aload_n 0, 1) := dk_42 (dk_at dksX0_household_2 21 rfl rfl)
theorem dX0_household_68 : decode cX0_household 68 = .ok (.iconst 0, 1) := dk_3 (dk_at dksX0_household_2 22 rfl rfl)
theorem dX0_household_69 : decode cX0_household 69 = .ok (.putfield 158, 3) := dk_181 0 158 (dk_at dksX0_household_3 0 rfl rfl)
theorem dX0_household_72 : decode cX0_household 72 = .ok (.aload_n 0, 1) := dk_42 (dk_at dksX0_household_3 3 rfl rfl)
theorem dX0_household_73 : decode cX0_household 73 = .ok (.getfield 31, 3) := dk_180 0 31 (dk_at dksX0_household_3 4 rfl rfl)
theorem dX0_household_76 : decode cX0_household 76 = .ok (.getfield 161, 3) := dk_180 0 161 (dk_at dksX0_household_3 7 rfl rfl)
theorem dX0_household_79 : decode cX0_household 79 = .ok (.ireturn, 1) := dk_172 (dk_at dksX0_household_3 10 rfl rfl)
abbrev cX0_tapeTaken : ByteArray := prog_1_method_12_code
def yX0_tapeTaken : MethodName := ⟨RX0, "tapeTaken", "()I"⟩
def dkwX0_tapeTaken_0 : List UInt8 := [42, 180, 0, 122, 60, 42, 3, 181, 0, 122, 27, 172]
abbrev dktX0_tapeTaken_0 : List UInt8 := dkwX0_tapeTaken_0 ++ []
theorem dksX0_tapeTaken_0 : cX0_tapeTaken.data.toList.drop 0 = dktX0_tapeTaken_0 := by decide +kernel
theorem dX0_tapeTaken_0 : decode cX0_tapeTaken 0 = .ok (.aload_n 0, 1) := dk_42 (dk_at dksX0_tapeTaken_0 0 rfl rfl)
theorem dX0_tapeTaken_1 : decode cX0_tapeTaken 1 = .ok (.getfield 122, 3) := dk_180 0 122 (dk_at dksX0_tapeTaken_0 1 rfl rfl)
theorem dX0_tapeTaken_4 : decode cX0_tapeTaken 4 = .ok (.istore_n 1, 1) := dk_60 (dk_at dksX0_tapeTaken_0 4 rfl rfl)
theorem dX0_tapeTaken_5 : decode cX0_tapeTaken 5 = .ok (.aload_n 0, 1) := dk_42 (dk_at dksX0_tapeTaken_0 5 rfl rfl)
theorem dX0_tapeTaken_6 : decode cX0_tapeTaken 6 = .ok (.iconst 0, 1) := dk_3 (dk_at dksX0_tapeTaken_0 6 rfl rfl)
theorem dX0_tapeTaken_7 : decode cX0_tapeTaken 7 = .ok (.putfield 122, 3) := dk_181 0 122 (dk_at dksX0_tapeTaken_0 7 rfl rfl)
theorem dX0_tapeTaken_10 : decode cX0_tapeTaken 10 = .ok (.iload_n 1, 1) := dk_27 (dk_at dksX0_tapeTaken_0 10 rfl rfl)
theorem dX0_tapeTaken_11 : decode cX0_tapeTaken 11 = .ok (.ireturn, 1) := dk_172 (dk_at dksX0_tapeTaken_0 11 rfl rfl)
abbrev cX0_isLetter : ByteArray := prog_1_method_4_code
def yX0_isLetter : MethodName := ⟨RX0, "isLetter", "(I)Z"⟩
def dkwX0_isLetter_0 : List UInt8 := [26, 16, 97, 161, 0, 13, 26, 16, 122, 163, 0, 7, 4, 167, 0, 4, 3, 172]
abbrev dktX0_isLetter_0 : List UInt8 := dkwX0_isLetter_0 ++ []
theorem dksX0_isLetter_0 : cX0_isLetter.data.toList.drop 0 = dktX0_isLetter_0 := by decide +kernel
theorem dX0_isLetter_0 : decode cX0_isLetter 0 = .ok (.iload_n 0, 1) := dk_26 (dk_at dksX0_isLetter_0 0 rfl rfl)
theorem dX0_isLetter_1 : decode cX0_isLetter 1 = .ok (.bipush 97, 2) := dk_16 97 (dk_at dksX0_isLetter_0 1 rfl rfl)
theorem dX0_isLetter_3 : decode cX0_isLetter 3 = .ok (.if_icmp .lt 13, 3) := dk_161 0 13 (dk_at dksX0_isLetter_0 3 rfl rfl)
theorem dX0_isLetter_6 : decode cX0_isLetter 6 = .ok (.iload_n 0, 1) := dk_26 (dk_at dksX0_isLetter_0 6 rfl rfl)
theorem dX0_isLetter_7 : decode cX0_isLetter 7 = .ok (.bipush 122, 2) := dk_16 122 (dk_at dksX0_isLetter_0 7 rfl rfl)
theorem dX0_isLetter_9 : decode cX0_isLetter 9 = .ok (.if_icmp .gt 7, 3) := dk_163 0 7 (dk_at dksX0_isLetter_0 9 rfl rfl)
theorem dX0_isLetter_12 : decode cX0_isLetter 12 = .ok (.iconst 1, 1) := dk_4 (dk_at dksX0_isLetter_0 12 rfl rfl)
theorem dX0_isLetter_13 : decode cX0_isLetter 13 = .ok (.goto 4, 3) := dk_167 0 4 (dk_at dksX0_isLetter_0 13 rfl rfl)
theorem dX0_isLetter_16 : decode cX0_isLetter 16 = .ok (.iconst 0, 1) := dk_3 (dk_at dksX0_isLetter_0 16 rfl rfl)
theorem dX0_isLetter_17 : decode cX0_isLetter 17 = .ok (.ireturn, 1) := dk_172 (dk_at dksX0_isLetter_0 17 rfl rfl)
abbrev cX0_isDigit : ByteArray := prog_1_method_5_code
def yX0_isDigit : MethodName := ⟨RX0, "isDigit", "(I)Z"⟩
def dkwX0_isDigit_0 : List UInt8 := [26, 16, 48, 161, 0, 13, 26, 16, 57, 163, 0, 7, 4, 167, 0, 4, 3, 172]
abbrev dktX0_isDigit_0 : List UInt8 := dkwX0_isDigit_0 ++ []
theorem dksX0_isDigit_0 : cX0_isDigit.data.toList.drop 0 = dktX0_isDigit_0 := by decide +kernel
theorem dX0_isDigit_0 : decode cX0_isDigit 0 = .ok (.iload_n 0, 1) := dk_26 (dk_at dksX0_isDigit_0 0 rfl rfl)
theorem dX0_isDigit_1 : decode cX0_isDigit 1 = .ok (.bipush 48, 2) := dk_16 48 (dk_at dksX0_isDigit_0 1 rfl rfl)
theorem dX0_isDigit_3 : decode cX0_isDigit 3 = .ok (.if_icmp .lt 13, 3) := dk_161 0 13 (dk_at dksX0_isDigit_0 3 rfl rfl)
theorem dX0_isDigit_6 : decode cX0_isDigit 6 = .ok (.iload_n 0, 1) := dk_26 (dk_at dksX0_isDigit_0 6 rfl rfl)
theorem dX0_isDigit_7 : decode cX0_isDigit 7 = .ok (.bipush 57, 2) := dk_16 57 (dk_at dksX0_isDigit_0 7 rfl rfl)
theorem dX0_isDigit_9 : decode cX0_isDigit 9 = .ok (.if_icmp .gt 7, 3) := dk_163 0 7 (dk_at dksX0_isDigit_0 9 rfl rfl)
theorem dX0_isDigit_12 : decode cX0_isDigit 12 = .ok (.iconst 1, 1) := dk_4 (dk_at dksX0_isDigit_0 12 rfl rfl)
theorem dX0_isDigit_13 : decode cX0_isDigit 13 = .ok (.goto 4, 3) := dk_167 0 4 (dk_at dksX0_isDigit_0 13 rfl rfl)
theorem dX0_isDigit_16 : decode cX0_isDigit 16 = .ok (.iconst 0, 1) := dk_3 (dk_at dksX0_isDigit_0 16 rfl rfl)
theorem dX0_isDigit_17 : decode cX0_isDigit 17 = .ok (.ireturn, 1) := dk_172 (dk_at dksX0_isDigit_0 17 rfl rfl)
abbrev cX0_find : ByteArray := prog_1_method_6_code
def yX0_find : MethodName := ⟨RX0, "find", "(Ljava/lang/String;[Ljava/lang/String;)I"⟩
def dkwX0_find_1 : List UInt8 := [167, 255, 235, 2, 172]
abbrev dktX0_find_1 : List UInt8 := dkwX0_find_1 ++ []
def dkwX0_find_0 : List UInt8 := [3, 61, 28, 43, 190, 162, 0, 21, 43, 28, 50, 42, 182, 0, 16, 153, 0, 5, 28, 172, 132, 2, 1]
abbrev dktX0_find_0 : List UInt8 := dkwX0_find_0 ++ dktX0_find_1
theorem dksX0_find_0 : cX0_find.data.toList.drop 0 = dktX0_find_0 := by decide +kernel
theorem dksX0_find_1 : cX0_find.data.toList.drop 23 = dktX0_find_1 := dk_seg dksX0_find_0 23 rfl rfl
theorem dX0_find_0 : decode cX0_find 0 = .ok (.iconst 0, 1) := dk_3 (dk_at dksX0_find_0 0 rfl rfl)
theorem dX0_find_1 : decode cX0_find 1 = .ok (.istore_n 2, 1) := dk_61 (dk_at dksX0_find_0 1 rfl rfl)
theorem dX0_find_2 : decode cX0_find 2 = .ok (.iload_n 2, 1) := dk_28 (dk_at dksX0_find_0 2 rfl rfl)
theorem dX0_find_3 : decode cX0_find 3 = .ok (.aload_n 1, 1) := dk_43 (dk_at dksX0_find_0 3 rfl rfl)
theorem dX0_find_4 : decode cX0_find 4 = .ok (.arraylength, 1) := dk_190 (dk_at dksX0_find_0 4 rfl rfl)
theorem dX0_find_5 : decode cX0_find 5 = .ok (.if_icmp .ge 21, 3) := dk_162 0 21 (dk_at dksX0_find_0 5 rfl rfl)
theorem dX0_find_8 : decode cX0_find 8 = .ok (.aload_n 1, 1) := dk_43 (dk_at dksX0_find_0 8 rfl rfl)
theorem dX0_find_9 : decode cX0_find 9 = .ok (.iload_n 2, 1) := dk_28 (dk_at dksX0_find_0 9 rfl rfl)
theorem dX0_find_10 : decode cX0_find 10 = .ok (.aaload, 1) := dk_50 (dk_at dksX0_find_0 10 rfl rfl)
theorem dX0_find_11 : decode cX0_find 11 = .ok (.aload_n 0, 1) := dk_42 (dk_at dksX0_find_0 11 rfl rfl)
theorem dX0_find_12 : decode cX0_find 12 = .ok (.invokevirtual 16, 3) := dk_182 0 16 (dk_at dksX0_find_0 12 rfl rfl)
theorem dX0_find_15 : decode cX0_find 15 = .ok (.ifCond .eq 5, 3) := dk_153 0 5 (dk_at dksX0_find_0 15 rfl rfl)
theorem dX0_find_18 : decode cX0_find 18 = .ok (.iload_n 2, 1) := dk_28 (dk_at dksX0_find_0 18 rfl rfl)
theorem dX0_find_19 : decode cX0_find 19 = .ok (.ireturn, 1) := dk_172 (dk_at dksX0_find_0 19 rfl rfl)
theorem dX0_find_20 : decode cX0_find 20 = .ok (.iinc 2 1, 3) := dk_132 2 1 (dk_at dksX0_find_0 20 rfl rfl)
theorem dX0_find_23 : decode cX0_find 23 = .ok (.goto (-21), 3) := dk_167 255 235 (dk_at dksX0_find_1 0 rfl rfl)
theorem dX0_find_26 : decode cX0_find 26 = .ok (.iconst (-1), 1) := dk_2 (dk_at dksX0_find_1 3 rfl rfl)
theorem dX0_find_27 : decode cX0_find 27 = .ok (.ireturn, 1) := dk_172 (dk_at dksX0_find_1 4 rfl rfl)
abbrev cX0_is : ByteArray := prog_1_method_1_code
def yX0_is : MethodName := ⟨RX0, "is", "(III)Z"⟩
def dkwX0_is_0 : List UInt8 := [26, 27, 161, 0, 12, 26, 28, 163, 0, 7, 4, 167, 0, 4, 3, 172]
abbrev dktX0_is_0 : List UInt8 := dkwX0_is_0 ++ []
theorem dksX0_is_0 : cX0_is.data.toList.drop 0 = dktX0_is_0 := by decide +kernel
theorem dX0_is_0 : decode cX0_is 0 = .ok (.iload_n 0, 1) := dk_26 (dk_at dksX0_is_0 0 rfl rfl)
theorem dX0_is_1 : decode cX0_is 1 = .ok (.iload_n 1, 1) := dk_27 (dk_at dksX0_is_0 1 rfl rfl)
theorem dX0_is_2 : decode cX0_is 2 = .ok (.if_icmp .lt 12, 3) := dk_161 0 12 (dk_at dksX0_is_0 2 rfl rfl)
theorem dX0_is_5 : decode cX0_is 5 = .ok (.iload_n 0, 1) := dk_26 (dk_at dksX0_is_0 5 rfl rfl)
theorem dX0_is_6 : decode cX0_is 6 = .ok (.iload_n 2, 1) := dk_28 (dk_at dksX0_is_0 6 rfl rfl)
theorem dX0_is_7 : decode cX0_is 7 = .ok (.if_icmp .gt 7, 3) := dk_163 0 7 (dk_at dksX0_is_0 7 rfl rfl)
theorem dX0_is_10 : decode cX0_is 10 = .ok (.iconst 1, 1) := dk_4 (dk_at dksX0_is_0 10 rfl rfl)
theorem dX0_is_11 : decode cX0_is 11 = .ok (.goto 4, 3) := dk_167 0 4 (dk_at dksX0_is_0 11 rfl rfl)
theorem dX0_is_14 : decode cX0_is 14 = .ok (.iconst 0, 1) := dk_3 (dk_at dksX0_is_0 14 rfl rfl)
theorem dX0_is_15 : decode cX0_is 15 = .ok (.ireturn, 1) := dk_172 (dk_at dksX0_is_0 15 rfl rfl)
abbrev cX0_has : ByteArray := prog_1_method_2_code
def yX0_has : MethodName := ⟨RX0, "has", "(II)Z"⟩
def dkwX0_has_0 : List UInt8 := [26, 27, 122, 4, 126, 4, 160, 0, 7, 4, 167, 0, 4, 3, 172]
abbrev dktX0_has_0 : List UInt8 := dkwX0_has_0 ++ []
theorem dksX0_has_0 : cX0_has.data.toList.drop 0 = dktX0_has_0 := by decide +kernel
theorem dX0_has_0 : decode cX0_has 0 = .ok (.iload_n 0, 1) := dk_26 (dk_at dksX0_has_0 0 rfl rfl)
theorem dX0_has_1 : decode cX0_has 1 = .ok (.iload_n 1, 1) := dk_27 (dk_at dksX0_has_0 1 rfl rfl)
theorem dX0_has_2 : decode cX0_has 2 = .ok (.ishr, 1) := dk_122 (dk_at dksX0_has_0 2 rfl rfl)
theorem dX0_has_3 : decode cX0_has 3 = .ok (.iconst 1, 1) := dk_4 (dk_at dksX0_has_0 3 rfl rfl)
theorem dX0_has_4 : decode cX0_has 4 = .ok (.iand, 1) := dk_126 (dk_at dksX0_has_0 4 rfl rfl)
theorem dX0_has_5 : decode cX0_has 5 = .ok (.iconst 1, 1) := dk_4 (dk_at dksX0_has_0 5 rfl rfl)
theorem dX0_has_6 : decode cX0_has 6 = .ok (.if_icmp .ne 7, 3) := dk_160 0 7 (dk_at dksX0_has_0 6 rfl rfl)
theorem dX0_has_9 : decode cX0_has 9 = .ok (.iconst 1, 1) := dk_4 (dk_at dksX0_has_0 9 rfl rfl)
theorem dX0_has_10 : decode cX0_has 10 = .ok (.goto 4, 3) := dk_167 0 4 (dk_at dksX0_has_0 10 rfl rfl)
theorem dX0_has_13 : decode cX0_has 13 = .ok (.iconst 0, 1) := dk_3 (dk_at dksX0_has_0 13 rfl rfl)
theorem dX0_has_14 : decode cX0_has 14 = .ok (.ireturn, 1) := dk_172 (dk_at dksX0_has_0 14 rfl rfl)
abbrev cX0_ties : ByteArray := prog_1_method_17_code
def yX0_ties : MethodName := ⟨RX0, "ties", "()I"⟩
def dkwX0_ties_0 : List UInt8 := [42, 180, 0, 31, 180, 0, 176, 185, 0, 168, 1, 0, 172]
abbrev dktX0_ties_0 : List UInt8 := dkwX0_ties_0 ++ []
theorem dksX0_ties_0 : cX0_ties.data.toList.drop 0 = dktX0_ties_0 := by decide +kernel
theorem dX0_ties_0 : decode cX0_ties 0 = .ok (.aload_n 0, 1) := dk_42 (dk_at dksX0_ties_0 0 rfl rfl)
theorem dX0_ties_1 : decode cX0_ties 1 = .ok (.getfield 31, 3) := dk_180 0 31 (dk_at dksX0_ties_0 1 rfl rfl)
theorem dX0_ties_4 : decode cX0_ties 4 = .ok (.getfield 176, 3) := dk_180 0 176 (dk_at dksX0_ties_0 4 rfl rfl)
theorem dX0_ties_7 : decode cX0_ties 7 = .ok (.invokeinterface 168 1, 5) := by decide +kernel
theorem dX0_ties_12 : decode cX0_ties 12 = .ok (.ireturn, 1) := dk_172 (dk_at dksX0_ties_0 12 rfl rfl)
abbrev cX0_things : ByteArray := prog_1_method_16_code
def yX0_things : MethodName := ⟨RX0, "things", "()I"⟩
def dkwX0_things_0 : List UInt8 := [42, 180, 0, 31, 180, 0, 173, 185, 0, 168, 1, 0, 172]
abbrev dktX0_things_0 : List UInt8 := dkwX0_things_0 ++ []
theorem dksX0_things_0 : cX0_things.data.toList.drop 0 = dktX0_things_0 := by decide +kernel
theorem dX0_things_0 : decode cX0_things 0 = .ok (.aload_n 0, 1) := dk_42 (dk_at dksX0_things_0 0 rfl rfl)
theorem dX0_things_1 : decode cX0_things 1 = .ok (.getfield 31, 3) := dk_180 0 31 (dk_at dksX0_things_0 1 rfl rfl)
theorem dX0_things_4 : decode cX0_things 4 = .ok (.getfield 173, 3) := dk_180 0 173 (dk_at dksX0_things_0 4 rfl rfl)
theorem dX0_things_7 : decode cX0_things 7 = .ok (.invokeinterface 168 1, 5) := by decide +kernel
theorem dX0_things_12 : decode cX0_things 12 = .ok (.ireturn, 1) := dk_172 (dk_at dksX0_things_0 12 rfl rfl)
abbrev cX0_thingOf : ByteArray := prog_1_method_21_code
def yX0_thingOf : MethodName := ⟨RX0, "thingOf", "(I)LFirstSnuffer$Burning;"⟩
def dkwX0_thingOf_0 : List UInt8 := [42, 180, 0, 31, 180, 0, 173, 27, 185, 0, 185, 2, 0, 192, 0, 189, 176]
abbrev dktX0_thingOf_0 : List UInt8 := dkwX0_thingOf_0 ++ []
theorem dksX0_thingOf_0 : cX0_thingOf.data.toList.drop 0 = dktX0_thingOf_0 := by decide +kernel
theorem dX0_thingOf_0 : decode cX0_thingOf 0 = .ok (.aload_n 0, 1) := dk_42 (dk_at dksX0_thingOf_0 0 rfl rfl)
theorem dX0_thingOf_1 : decode cX0_thingOf 1 = .ok (.getfield 31, 3) := dk_180 0 31 (dk_at dksX0_thingOf_0 1 rfl rfl)
theorem dX0_thingOf_4 : decode cX0_thingOf 4 = .ok (.getfield 173, 3) := dk_180 0 173 (dk_at dksX0_thingOf_0 4 rfl rfl)
theorem dX0_thingOf_7 : decode cX0_thingOf 7 = .ok (.iload_n 1, 1) := dk_27 (dk_at dksX0_thingOf_0 7 rfl rfl)
theorem dX0_thingOf_8 : decode cX0_thingOf 8 = .ok (.invokeinterface 185 2, 5) := by decide +kernel
theorem dX0_thingOf_13 : decode cX0_thingOf 13 = .ok (.checkcast 189, 3) := dk_192 0 189 (dk_at dksX0_thingOf_0 13 rfl rfl)
theorem dX0_thingOf_16 : decode cX0_thingOf 16 = .ok (.areturn, 1) := dk_176 (dk_at dksX0_thingOf_0 16 rfl rfl)
abbrev cX0_fault : ByteArray := prog_1_method_14_code
def yX0_fault : MethodName := ⟨RX0, "fault", "(I)I"⟩
def dkwX0_fault_1 : List UInt8 := [172]
abbrev dktX0_fault_1 : List UInt8 := dkwX0_fault_1 ++ []
def dkwX0_fault_0 : List UInt8 := [27, 154, 0, 10, 42, 180, 0, 133, 167, 0, 16, 27, 4, 160, 0, 10, 42, 180, 0, 39, 167, 0, 4, 2]
abbrev dktX0_fault_0 : List UInt8 := dkwX0_fault_0 ++ dktX0_fault_1
theorem dksX0_fault_0 : cX0_fault.data.toList.drop 0 = dktX0_fault_0 := by decide +kernel
theorem dksX0_fault_1 : cX0_fault.data.toList.drop 24 = dktX0_fault_1 := dk_seg dksX0_fault_0 24 rfl rfl
theorem dX0_fault_0 : decode cX0_fault 0 = .ok (.iload_n 1, 1) := dk_27 (dk_at dksX0_fault_0 0 rfl rfl)
theorem dX0_fault_1 : decode cX0_fault 1 = .ok (.ifCond .ne 10, 3) := dk_154 0 10 (dk_at dksX0_fault_0 1 rfl rfl)
theorem dX0_fault_4 : decode cX0_fault 4 = .ok (.aload_n 0, 1) := dk_42 (dk_at dksX0_fault_0 4 rfl rfl)
theorem dX0_fault_5 : decode cX0_fault 5 = .ok (.getfield 133, 3) := dk_180 0 133 (dk_at dksX0_fault_0 5 rfl rfl)
theorem dX0_fault_8 : decode cX0_fault 8 = .ok (.goto 16, 3) := dk_167 0 16 (dk_at dksX0_fault_0 8 rfl rfl)
theorem dX0_fault_11 : decode cX0_fault 11 = .ok (.iload_n 1, 1) := dk_27 (dk_at dksX0_fault_0 11 rfl rfl)
theorem dX0_fault_12 : decode cX0_fault 12 = .ok (.iconst 1, 1) := dk_4 (dk_at dksX0_fault_0 12 rfl rfl)
theorem dX0_fault_13 : decode cX0_fault 13 = .ok (.if_icmp .ne 10, 3) := dk_160 0 10 (dk_at dksX0_fault_0 13 rfl rfl)
theorem dX0_fault_16 : decode cX0_fault 16 = .ok (.aload_n 0, 1) := dk_42 (dk_at dksX0_fault_0 16 rfl rfl)
theorem dX0_fault_17 : decode cX0_fault 17 = .ok (.getfield 39, 3) := dk_180 0 39 (dk_at dksX0_fault_0 17 rfl rfl)
theorem dX0_fault_20 : decode cX0_fault 20 = .ok (.goto 4, 3) := dk_167 0 4 (dk_at dksX0_fault_0 20 rfl rfl)
theorem dX0_fault_23 : decode cX0_fault 23 = .ok (.iconst (-1), 1) := dk_2 (dk_at dksX0_fault_0 23 rfl rfl)
theorem dX0_fault_24 : decode cX0_fault 24 = .ok (.ireturn, 1) := dk_172 (dk_at dksX0_fault_1 0 rfl rfl)
abbrev cX0_has_2 : ByteArray := prog_1_method_26_code
def yX0_has_2 : MethodName := ⟨RX0, "has", "(I)I"⟩
def dkwX0_has_2_5 : List UInt8 := [180, 0, 228, 172, 42, 180, 0, 158, 172, 42, 180, 0, 155, 172, 2, 172]
abbrev dktX0_has_2_5 : List UInt8 := dkwX0_has_2_5 ++ []
def dkwX0_has_2_4 : List UInt8 := [182, 0, 217, 184, 0, 220, 172, 42, 180, 0, 74, 180, 0, 225, 184, 0, 220, 172, 42, 180, 0, 74]
abbrev dktX0_has_2_4 : List UInt8 := dkwX0_has_2_4 ++ dktX0_has_2_5
def dkwX0_has_2_3 : List UInt8 := [182, 0, 183, 172, 42, 180, 0, 74, 180, 0, 211, 172, 42, 180, 0, 74, 180, 0, 214, 172, 42, 180, 0, 74]
abbrev dktX0_has_2_3 : List UInt8 := dkwX0_has_2_3 ++ dktX0_has_2_4
def dkwX0_has_2_2 : List UInt8 := [42, 182, 0, 179, 172, 42, 180, 0, 31, 180, 0, 194, 185, 0, 168, 1, 0, 172, 42, 182, 0, 181, 172, 42]
abbrev dktX0_has_2_2 : List UInt8 := dkwX0_has_2_2 ++ dktX0_has_2_3
def dkwX0_has_2_1 : List UInt8 := [170, 0, 0, 0, 0, 0, 143, 0, 0, 0, 0, 0, 0, 0, 10, 0, 0, 0, 59, 0, 0, 0, 64, 0, 0, 0, 77, 0, 0, 0, 82, 0, 0, 0, 87, 0, 0, 0, 95, 0, 0, 0, 103, 0, 0, 0, 114, 0, 0, 0, 125, 0, 0, 0, 133, 0, 0, 0, 138]
abbrev dktX0_has_2_1 : List UInt8 := dkwX0_has_2_1 ++ dktX0_has_2_2
def dkwX0_has_2_0 : List UInt8 := [27]
abbrev dktX0_has_2_0 : List UInt8 := dkwX0_has_2_0 ++ dktX0_has_2_1
theorem dksX0_has_2_0 : cX0_has_2.data.toList.drop 0 = dktX0_has_2_0 := by decide +kernel
theorem dksX0_has_2_1 : cX0_has_2.data.toList.drop 1 = dktX0_has_2_1 := dk_seg dksX0_has_2_0 1 rfl rfl
theorem dksX0_has_2_2 : cX0_has_2.data.toList.drop 60 = dktX0_has_2_2 := dk_seg dksX0_has_2_1 59 rfl rfl
theorem dksX0_has_2_3 : cX0_has_2.data.toList.drop 84 = dktX0_has_2_3 := dk_seg dksX0_has_2_2 24 rfl rfl
theorem dksX0_has_2_4 : cX0_has_2.data.toList.drop 108 = dktX0_has_2_4 := dk_seg dksX0_has_2_3 24 rfl rfl
theorem dksX0_has_2_5 : cX0_has_2.data.toList.drop 130 = dktX0_has_2_5 := dk_seg dksX0_has_2_4 22 rfl rfl
theorem dX0_has_2_0 : decode cX0_has_2 0 = .ok (.iload_n 1, 1) := dk_27 (dk_at dksX0_has_2_0 0 rfl rfl)
theorem dX0_has_2_1 : decode cX0_has_2 1 = .ok (.tableswitch 143 0 10 #[59, 64, 77, 82, 87, 95, 103, 114, 125, 133, 138], 59) := by decide +kernel
theorem dX0_has_2_60 : decode cX0_has_2 60 = .ok (.aload_n 0, 1) := dk_42 (dk_at dksX0_has_2_2 0 rfl rfl)
theorem dX0_has_2_61 : decode cX0_has_2 61 = .ok (.invokevirtual 179, 3) := dk_182 0 179 (dk_at dksX0_has_2_2 1 rfl rfl)
theorem dX0_has_2_64 : decode cX0_has_2 64 = .ok (.ireturn, 1) := dk_172 (dk_at dksX0_has_2_2 4 rfl rfl)
theorem dX0_has_2_65 : decode cX0_has_2 65 = .ok (.aload_n 0, 1) := dk_42 (dk_at dksX0_has_2_2 5 rfl rfl)
theorem dX0_has_2_66 : decode cX0_has_2 66 = .ok (.getfield 31, 3) := dk_180 0 31 (dk_at dksX0_has_2_2 6 rfl rfl)
theorem dX0_has_2_69 : decode cX0_has_2 69 = .ok (.getfield 194, 3) := dk_180 0 194 (dk_at dksX0_has_2_2 9 rfl rfl)
theorem dX0_has_2_72 : decode cX0_has_2 72 = .ok (.invokeinterface 168 1, 5) := by decide +kernel
theorem dX0_has_2_77 : decode cX0_has_2 77 = .ok (.ireturn, 1) := dk_172 (dk_at dksX0_has_2_2 17 rfl rfl)
theorem dX0_has_2_78 : decode cX0_has_2 78 = .ok (.aload_n 0, 1) := dk_42 (dk_at dksX0_has_2_2 18 rfl rfl)
theorem dX0_has_2_79 : decode cX0_has_2 79 = .ok (.invokevirtual 181, 3) := dk_182 0 181 (dk_at dksX0_has_2_2 19 rfl rfl)
theorem dX0_has_2_82 : decode cX0_has_2 82 = .ok (.ireturn, 1) := dk_172 (dk_at dksX0_has_2_2 22 rfl rfl)
theorem dX0_has_2_83 : decode cX0_has_2 83 = .ok (.aload_n 0, 1) := dk_42 (dk_at dksX0_has_2_2 23 rfl rfl)
theorem dX0_has_2_84 : decode cX0_has_2 84 = .ok (.invokevirtual 183, 3) := dk_182 0 183 (dk_at dksX0_has_2_3 0 rfl rfl)
theorem dX0_has_2_87 : decode cX0_has_2 87 = .ok (.ireturn, 1) := dk_172 (dk_at dksX0_has_2_3 3 rfl rfl)
theorem dX0_has_2_88 : decode cX0_has_2 88 = .ok (.aload_n 0, 1) := dk_42 (dk_at dksX0_has_2_3 4 rfl rfl)
theorem dX0_has_2_89 : decode cX0_has_2 89 = .ok (.getfield 74, 3) := dk_180 0 74 (dk_at dksX0_has_2_3 5 rfl rfl)
theorem dX0_has_2_92 : decode cX0_has_2 92 = .ok (.getfield 211, 3) := dk_180 0 211 (dk_at dksX0_has_2_3 8 rfl rfl)
theorem dX0_has_2_95 : decode cX0_has_2 95 = .ok (.ireturn, 1) := dk_172 (dk_at dksX0_has_2_3 11 rfl rfl)
theorem dX0_has_2_96 : decode cX0_has_2 96 = .ok (.aload_n 0, 1) := dk_42 (dk_at dksX0_has_2_3 12 rfl rfl)
theorem dX0_has_2_97 : decode cX0_has_2 97 = .ok (.getfield 74, 3) := dk_180 0 74 (dk_at dksX0_has_2_3 13 rfl rfl)
theorem dX0_has_2_100 : decode cX0_has_2 100 = .ok (.getfield 214, 3) := dk_180 0 214 (dk_at dksX0_has_2_3 16 rfl rfl)
theorem dX0_has_2_103 : decode cX0_has_2 103 = .ok (.ireturn, 1) := dk_172 (dk_at dksX0_has_2_3 19 rfl rfl)
theorem dX0_has_2_104 : decode cX0_has_2 104 = .ok (.aload_n 0, 1) := dk_42 (dk_at dksX0_has_2_3 20 rfl rfl)
theorem dX0_has_2_105 : decode cX0_has_2 105 = .ok (.getfield 74, 3) := dk_180 0 74 (dk_at dksX0_has_2_3 21 rfl rfl)
theorem dX0_has_2_108 : decode cX0_has_2 108 = .ok (.invokevirtual 217, 3) := dk_182 0 217 (dk_at dksX0_has_2_4 0 rfl rfl)
theorem dX0_has_2_111 : decode cX0_has_2 111 = .ok (.invokestatic 220, 3) := dk_184 0 220 (dk_at dksX0_has_2_4 3 rfl rfl)
theorem dX0_has_2_114 : decode cX0_has_2 114 = .ok (.ireturn, 1) := dk_172 (dk_at dksX0_has_2_4 6 rfl rfl)
theorem dX0_has_2_115 : decode cX0_has_2 115 = .ok (.aload_n 0, 1) := dk_42 (dk_at dksX0_has_2_4 7 rfl rfl)
theorem dX0_has_2_116 : decode cX0_has_2 116 = .ok (.getfield 74, 3) := dk_180 0 74 (dk_at dksX0_has_2_4 8 rfl rfl)
theorem dX0_has_2_119 : decode cX0_has_2 119 = .ok (.getfield 225, 3) := dk_180 0 225 (dk_at dksX0_has_2_4 11 rfl rfl)
theorem dX0_has_2_122 : decode cX0_has_2 122 = .ok (.invokestatic 220, 3) := dk_184 0 220 (dk_at dksX0_has_2_4 14 rfl rfl)
theorem dX0_has_2_125 : decode cX0_has_2 125 = .ok (.ireturn, 1) := dk_172 (dk_at dksX0_has_2_4 17 rfl rfl)
theorem dX0_has_2_126 : decode cX0_has_2 126 = .ok (.aload_n 0, 1) := dk_42 (dk_at dksX0_has_2_4 18 rfl rfl)
theorem dX0_has_2_127 : decode cX0_has_2 127 = .ok (.getfield 74, 3) := dk_180 0 74 (dk_at dksX0_has_2_4 19 rfl rfl)
theorem dX0_has_2_130 : decode cX0_has_2 130 = .ok (.getfield 228, 3) := dk_180 0 228 (dk_at dksX0_has_2_5 0 rfl rfl)
theorem dX0_has_2_133 : decode cX0_has_2 133 = .ok (.ireturn, 1) := dk_172 (dk_at dksX0_has_2_5 3 rfl rfl)
theorem dX0_has_2_134 : decode cX0_has_2 134 = .ok (.aload_n 0, 1) := dk_42 (dk_at dksX0_has_2_5 4 rfl rfl)
theorem dX0_has_2_135 : decode cX0_has_2 135 = .ok (.getfield 158, 3) := dk_180 0 158 (dk_at dksX0_has_2_5 5 rfl rfl)
theorem dX0_has_2_138 : decode cX0_has_2 138 = .ok (.ireturn, 1) := dk_172 (dk_at dksX0_has_2_5 8 rfl rfl)
theorem dX0_has_2_139 : decode cX0_has_2 139 = .ok (.aload_n 0, 1) := dk_42 (dk_at dksX0_has_2_5 9 rfl rfl)
theorem dX0_has_2_140 : decode cX0_has_2 140 = .ok (.getfield 155, 3) := dk_180 0 155 (dk_at dksX0_has_2_5 10 rfl rfl)
theorem dX0_has_2_143 : decode cX0_has_2 143 = .ok (.ireturn, 1) := dk_172 (dk_at dksX0_has_2_5 13 rfl rfl)
theorem dX0_has_2_144 : decode cX0_has_2 144 = .ok (.iconst (-1), 1) := dk_2 (dk_at dksX0_has_2_5 14 rfl rfl)
theorem dX0_has_2_145 : decode cX0_has_2 145 = .ok (.ireturn, 1) := dk_172 (dk_at dksX0_has_2_5 15 rfl rfl)
abbrev cX0_halls : ByteArray := prog_1_method_15_code
def yX0_halls : MethodName := ⟨RX0, "halls", "()I"⟩
def dkwX0_halls_0 : List UInt8 := [42, 180, 0, 31, 180, 0, 164, 185, 0, 168, 1, 0, 172]
abbrev dktX0_halls_0 : List UInt8 := dkwX0_halls_0 ++ []
theorem dksX0_halls_0 : cX0_halls.data.toList.drop 0 = dktX0_halls_0 := by decide +kernel
theorem dX0_halls_0 : decode cX0_halls 0 = .ok (.aload_n 0, 1) := dk_42 (dk_at dksX0_halls_0 0 rfl rfl)
theorem dX0_halls_1 : decode cX0_halls 1 = .ok (.getfield 31, 3) := dk_180 0 31 (dk_at dksX0_halls_0 1 rfl rfl)
theorem dX0_halls_4 : decode cX0_halls 4 = .ok (.getfield 164, 3) := dk_180 0 164 (dk_at dksX0_halls_0 4 rfl rfl)
theorem dX0_halls_7 : decode cX0_halls 7 = .ok (.invokeinterface 168 1, 5) := by decide +kernel
theorem dX0_halls_12 : decode cX0_halls 12 = .ok (.ireturn, 1) := dk_172 (dk_at dksX0_halls_0 12 rfl rfl)
abbrev cX0_letter : ByteArray := prog_1_method_27_code
def yX0_letter : MethodName := ⟨RX0, "letter", "(III)I"⟩
def dkwX0_letter_3 : List UInt8 := [182, 0, 237, 167, 0, 4, 2, 172]
abbrev dktX0_letter_3 : List UInt8 := dkwX0_letter_3 ++ []
def dkwX0_letter_2 : List UInt8 := [25, 4, 185, 0, 168, 1, 0, 162, 0, 21, 25, 4, 28, 185, 0, 185, 2, 0, 192, 0, 235, 29]
abbrev dktX0_letter_2 : List UInt8 := dkwX0_letter_2 ++ dktX0_letter_3
def dkwX0_letter_1 : List UInt8 := [27, 154, 0, 13, 42, 180, 0, 31, 180, 0, 164, 167, 0, 10, 42, 180, 0, 31, 180, 0, 173, 58, 4, 28]
abbrev dktX0_letter_1 : List UInt8 := dkwX0_letter_1 ++ dktX0_letter_2
def dkwX0_letter_0 : List UInt8 := [29, 3, 8, 184, 0, 231, 153, 0, 16, 27, 3, 4, 184, 0, 231, 153, 0, 7, 28, 156, 0, 5, 2, 172]
abbrev dktX0_letter_0 : List UInt8 := dkwX0_letter_0 ++ dktX0_letter_1
theorem dksX0_letter_0 : cX0_letter.data.toList.drop 0 = dktX0_letter_0 := by decide +kernel
theorem dksX0_letter_1 : cX0_letter.data.toList.drop 24 = dktX0_letter_1 := dk_seg dksX0_letter_0 24 rfl rfl
theorem dksX0_letter_2 : cX0_letter.data.toList.drop 48 = dktX0_letter_2 := dk_seg dksX0_letter_1 24 rfl rfl
theorem dksX0_letter_3 : cX0_letter.data.toList.drop 70 = dktX0_letter_3 := dk_seg dksX0_letter_2 22 rfl rfl
theorem dX0_letter_0 : decode cX0_letter 0 = .ok (.iload_n 3, 1) := dk_29 (dk_at dksX0_letter_0 0 rfl rfl)
theorem dX0_letter_1 : decode cX0_letter 1 = .ok (.iconst 0, 1) := dk_3 (dk_at dksX0_letter_0 1 rfl rfl)
theorem dX0_letter_2 : decode cX0_letter 2 = .ok (.iconst 5, 1) := dk_8 (dk_at dksX0_letter_0 2 rfl rfl)
theorem dX0_letter_3 : decode cX0_letter 3 = .ok (.invokestatic 231, 3) := dk_184 0 231 (dk_at dksX0_letter_0 3 rfl rfl)
theorem dX0_letter_6 : decode cX0_letter 6 = .ok (.ifCond .eq 16, 3) := dk_153 0 16 (dk_at dksX0_letter_0 6 rfl rfl)
theorem dX0_letter_9 : decode cX0_letter 9 = .ok (.iload_n 1, 1) := dk_27 (dk_at dksX0_letter_0 9 rfl rfl)
theorem dX0_letter_10 : decode cX0_letter 10 = .ok (.iconst 0, 1) := dk_3 (dk_at dksX0_letter_0 10 rfl rfl)
theorem dX0_letter_11 : decode cX0_letter 11 = .ok (.iconst 1, 1) := dk_4 (dk_at dksX0_letter_0 11 rfl rfl)
theorem dX0_letter_12 : decode cX0_letter 12 = .ok (.invokestatic 231, 3) := dk_184 0 231 (dk_at dksX0_letter_0 12 rfl rfl)
theorem dX0_letter_15 : decode cX0_letter 15 = .ok (.ifCond .eq 7, 3) := dk_153 0 7 (dk_at dksX0_letter_0 15 rfl rfl)
theorem dX0_letter_18 : decode cX0_letter 18 = .ok (.iload_n 2, 1) := dk_28 (dk_at dksX0_letter_0 18 rfl rfl)
theorem dX0_letter_19 : decode cX0_letter 19 = .ok (.ifCond .ge 5, 3) := dk_156 0 5 (dk_at dksX0_letter_0 19 rfl rfl)
theorem dX0_letter_22 : decode cX0_letter 22 = .ok (.iconst (-1), 1) := dk_2 (dk_at dksX0_letter_0 22 rfl rfl)
theorem dX0_letter_23 : decode cX0_letter 23 = .ok (.ireturn, 1) := dk_172 (dk_at dksX0_letter_0 23 rfl rfl)
theorem dX0_letter_24 : decode cX0_letter 24 = .ok (.iload_n 1, 1) := dk_27 (dk_at dksX0_letter_1 0 rfl rfl)
theorem dX0_letter_25 : decode cX0_letter 25 = .ok (.ifCond .ne 13, 3) := dk_154 0 13 (dk_at dksX0_letter_1 1 rfl rfl)
theorem dX0_letter_28 : decode cX0_letter 28 = .ok (.aload_n 0, 1) := dk_42 (dk_at dksX0_letter_1 4 rfl rfl)
theorem dX0_letter_29 : decode cX0_letter 29 = .ok (.getfield 31, 3) := dk_180 0 31 (dk_at dksX0_letter_1 5 rfl rfl)
theorem dX0_letter_32 : decode cX0_letter 32 = .ok (.getfield 164, 3) := dk_180 0 164 (dk_at dksX0_letter_1 8 rfl rfl)
theorem dX0_letter_35 : decode cX0_letter 35 = .ok (.goto 10, 3) := dk_167 0 10 (dk_at dksX0_letter_1 11 rfl rfl)
theorem dX0_letter_38 : decode cX0_letter 38 = .ok (.aload_n 0, 1) := dk_42 (dk_at dksX0_letter_1 14 rfl rfl)
theorem dX0_letter_39 : decode cX0_letter 39 = .ok (.getfield 31, 3) := dk_180 0 31 (dk_at dksX0_letter_1 15 rfl rfl)
theorem dX0_letter_42 : decode cX0_letter 42 = .ok (.getfield 173, 3) := dk_180 0 173 (dk_at dksX0_letter_1 18 rfl rfl)
theorem dX0_letter_45 : decode cX0_letter 45 = .ok (.astore 4, 2) := dk_58 4 (dk_at dksX0_letter_1 21 rfl rfl)
theorem dX0_letter_47 : decode cX0_letter 47 = .ok (.iload_n 2, 1) := dk_28 (dk_at dksX0_letter_1 23 rfl rfl)
theorem dX0_letter_48 : decode cX0_letter 48 = .ok (.aload 4, 2) := dk_25 4 (dk_at dksX0_letter_2 0 rfl rfl)
theorem dX0_letter_50 : decode cX0_letter 50 = .ok (.invokeinterface 168 1, 5) := by decide +kernel
theorem dX0_letter_55 : decode cX0_letter 55 = .ok (.if_icmp .ge 21, 3) := dk_162 0 21 (dk_at dksX0_letter_2 7 rfl rfl)
theorem dX0_letter_58 : decode cX0_letter 58 = .ok (.aload 4, 2) := dk_25 4 (dk_at dksX0_letter_2 10 rfl rfl)
theorem dX0_letter_60 : decode cX0_letter 60 = .ok (.iload_n 2, 1) := dk_28 (dk_at dksX0_letter_2 12 rfl rfl)
theorem dX0_letter_61 : decode cX0_letter 61 = .ok (.invokeinterface 185 2, 5) := by decide +kernel
theorem dX0_letter_66 : decode cX0_letter 66 = .ok (.checkcast 235, 3) := dk_192 0 235 (dk_at dksX0_letter_2 18 rfl rfl)
theorem dX0_letter_69 : decode cX0_letter 69 = .ok (.iload_n 3, 1) := dk_29 (dk_at dksX0_letter_2 21 rfl rfl)
theorem dX0_letter_70 : decode cX0_letter 70 = .ok (.invokevirtual 237, 3) := dk_182 0 237 (dk_at dksX0_letter_3 0 rfl rfl)
theorem dX0_letter_73 : decode cX0_letter 73 = .ok (.goto 4, 3) := dk_167 0 4 (dk_at dksX0_letter_3 3 rfl rfl)
theorem dX0_letter_76 : decode cX0_letter 76 = .ok (.iconst (-1), 1) := dk_2 (dk_at dksX0_letter_3 6 rfl rfl)
theorem dX0_letter_77 : decode cX0_letter 77 = .ok (.ireturn, 1) := dk_172 (dk_at dksX0_letter_3 7 rfl rfl)
abbrev cX0_thing : ByteArray := prog_1_method_28_code
def yX0_thing : MethodName := ⟨RX0, "thing", "(II)I"⟩
def dkwX0_thing_4 : List UInt8 := [153, 0, 7, 4, 167, 0, 4, 3, 172, 2, 172]
abbrev dktX0_thing_4 : List UInt8 := dkwX0_thing_4 ++ []
def dkwX0_thing_3 : List UInt8 := [180, 0, 254, 27, 46, 172, 42, 180, 0, 74, 180, 1, 1, 27, 46, 172, 42, 180, 0, 74, 27, 182, 1, 4]
abbrev dktX0_thing_3 : List UInt8 := dkwX0_thing_3 ++ dktX0_thing_4
def dkwX0_thing_2 : List UInt8 := [42, 27, 182, 0, 244, 180, 0, 248, 172, 42, 27, 182, 0, 244, 180, 0, 251, 172, 42, 180, 0, 74]
abbrev dktX0_thing_2 : List UInt8 := dkwX0_thing_2 ++ dktX0_thing_3
def dkwX0_thing_1 : List UInt8 := [170, 0, 0, 0, 88, 0, 0, 0, 0, 0, 0, 0, 4, 0, 0, 0, 33, 0, 0, 0, 42, 0, 0, 0, 51, 0, 0, 0, 61, 0, 0, 0, 71]
abbrev dktX0_thing_1 : List UInt8 := dkwX0_thing_1 ++ dktX0_thing_2
def dkwX0_thing_0 : List UInt8 := [42, 27, 182, 0, 240, 154, 0, 5, 2, 172, 28]
abbrev dktX0_thing_0 : List UInt8 := dkwX0_thing_0 ++ dktX0_thing_1
theorem dksX0_thing_0 : cX0_thing.data.toList.drop 0 = dktX0_thing_0 := by decide +kernel
theorem dksX0_thing_1 : cX0_thing.data.toList.drop 11 = dktX0_thing_1 := dk_seg dksX0_thing_0 11 rfl rfl
theorem dksX0_thing_2 : cX0_thing.data.toList.drop 44 = dktX0_thing_2 := dk_seg dksX0_thing_1 33 rfl rfl
theorem dksX0_thing_3 : cX0_thing.data.toList.drop 66 = dktX0_thing_3 := dk_seg dksX0_thing_2 22 rfl rfl
theorem dksX0_thing_4 : cX0_thing.data.toList.drop 90 = dktX0_thing_4 := dk_seg dksX0_thing_3 24 rfl rfl
theorem dX0_thing_0 : decode cX0_thing 0 = .ok (.aload_n 0, 1) := dk_42 (dk_at dksX0_thing_0 0 rfl rfl)
theorem dX0_thing_1 : decode cX0_thing 1 = .ok (.iload_n 1, 1) := dk_27 (dk_at dksX0_thing_0 1 rfl rfl)
theorem dX0_thing_2 : decode cX0_thing 2 = .ok (.invokevirtual 240, 3) := dk_182 0 240 (dk_at dksX0_thing_0 2 rfl rfl)
theorem dX0_thing_5 : decode cX0_thing 5 = .ok (.ifCond .ne 5, 3) := dk_154 0 5 (dk_at dksX0_thing_0 5 rfl rfl)
theorem dX0_thing_8 : decode cX0_thing 8 = .ok (.iconst (-1), 1) := dk_2 (dk_at dksX0_thing_0 8 rfl rfl)
theorem dX0_thing_9 : decode cX0_thing 9 = .ok (.ireturn, 1) := dk_172 (dk_at dksX0_thing_0 9 rfl rfl)
theorem dX0_thing_10 : decode cX0_thing 10 = .ok (.iload_n 2, 1) := dk_28 (dk_at dksX0_thing_0 10 rfl rfl)
theorem dX0_thing_11 : decode cX0_thing 11 = .ok (.tableswitch 88 0 4 #[33, 42, 51, 61, 71], 33) := by decide +kernel
theorem dX0_thing_44 : decode cX0_thing 44 = .ok (.aload_n 0, 1) := dk_42 (dk_at dksX0_thing_2 0 rfl rfl)
theorem dX0_thing_45 : decode cX0_thing 45 = .ok (.iload_n 1, 1) := dk_27 (dk_at dksX0_thing_2 1 rfl rfl)
theorem dX0_thing_46 : decode cX0_thing 46 = .ok (.invokevirtual 244, 3) := dk_182 0 244 (dk_at dksX0_thing_2 2 rfl rfl)
theorem dX0_thing_49 : decode cX0_thing 49 = .ok (.getfield 248, 3) := dk_180 0 248 (dk_at dksX0_thing_2 5 rfl rfl)
theorem dX0_thing_52 : decode cX0_thing 52 = .ok (.ireturn, 1) := dk_172 (dk_at dksX0_thing_2 8 rfl rfl)
theorem dX0_thing_53 : decode cX0_thing 53 = .ok (.aload_n 0, 1) := dk_42 (dk_at dksX0_thing_2 9 rfl rfl)
theorem dX0_thing_54 : decode cX0_thing 54 = .ok (.iload_n 1, 1) := dk_27 (dk_at dksX0_thing_2 10 rfl rfl)
theorem dX0_thing_55 : decode cX0_thing 55 = .ok (.invokevirtual 244, 3) := dk_182 0 244 (dk_at dksX0_thing_2 11 rfl rfl)
theorem dX0_thing_58 : decode cX0_thing 58 = .ok (.getfield 251, 3) := dk_180 0 251 (dk_at dksX0_thing_2 14 rfl rfl)
theorem dX0_thing_61 : decode cX0_thing 61 = .ok (.ireturn, 1) := dk_172 (dk_at dksX0_thing_2 17 rfl rfl)
theorem dX0_thing_62 : decode cX0_thing 62 = .ok (.aload_n 0, 1) := dk_42 (dk_at dksX0_thing_2 18 rfl rfl)
theorem dX0_thing_63 : decode cX0_thing 63 = .ok (.getfield 74, 3) := dk_180 0 74 (dk_at dksX0_thing_2 19 rfl rfl)
theorem dX0_thing_66 : decode cX0_thing 66 = .ok (.getfield 254, 3) := dk_180 0 254 (dk_at dksX0_thing_3 0 rfl rfl)
theorem dX0_thing_69 : decode cX0_thing 69 = .ok (.iload_n 1, 1) := dk_27 (dk_at dksX0_thing_3 3 rfl rfl)
theorem dX0_thing_70 : decode cX0_thing 70 = .ok (.iaload, 1) := dk_46 (dk_at dksX0_thing_3 4 rfl rfl)
theorem dX0_thing_71 : decode cX0_thing 71 = .ok (.ireturn, 1) := dk_172 (dk_at dksX0_thing_3 5 rfl rfl)
theorem dX0_thing_72 : decode cX0_thing 72 = .ok (.aload_n 0, 1) := dk_42 (dk_at dksX0_thing_3 6 rfl rfl)
theorem dX0_thing_73 : decode cX0_thing 73 = .ok (.getfield 74, 3) := dk_180 0 74 (dk_at dksX0_thing_3 7 rfl rfl)
theorem dX0_thing_76 : decode cX0_thing 76 = .ok (.getfield 257, 3) := dk_180 1 1 (dk_at dksX0_thing_3 10 rfl rfl)
theorem dX0_thing_79 : decode cX0_thing 79 = .ok (.iload_n 1, 1) := dk_27 (dk_at dksX0_thing_3 13 rfl rfl)
theorem dX0_thing_80 : decode cX0_thing 80 = .ok (.iaload, 1) := dk_46 (dk_at dksX0_thing_3 14 rfl rfl)
theorem dX0_thing_81 : decode cX0_thing 81 = .ok (.ireturn, 1) := dk_172 (dk_at dksX0_thing_3 15 rfl rfl)
theorem dX0_thing_82 : decode cX0_thing 82 = .ok (.aload_n 0, 1) := dk_42 (dk_at dksX0_thing_3 16 rfl rfl)
theorem dX0_thing_83 : decode cX0_thing 83 = .ok (.getfield 74, 3) := dk_180 0 74 (dk_at dksX0_thing_3 17 rfl rfl)
theorem dX0_thing_86 : decode cX0_thing 86 = .ok (.iload_n 1, 1) := dk_27 (dk_at dksX0_thing_3 20 rfl rfl)
theorem dX0_thing_87 : decode cX0_thing 87 = .ok (.invokevirtual 260, 3) := dk_182 1 4 (dk_at dksX0_thing_3 21 rfl rfl)
theorem dX0_thing_90 : decode cX0_thing 90 = .ok (.ifCond .eq 7, 3) := dk_153 0 7 (dk_at dksX0_thing_4 0 rfl rfl)
theorem dX0_thing_93 : decode cX0_thing 93 = .ok (.iconst 1, 1) := dk_4 (dk_at dksX0_thing_4 3 rfl rfl)
theorem dX0_thing_94 : decode cX0_thing 94 = .ok (.goto 4, 3) := dk_167 0 4 (dk_at dksX0_thing_4 4 rfl rfl)
theorem dX0_thing_97 : decode cX0_thing 97 = .ok (.iconst 0, 1) := dk_3 (dk_at dksX0_thing_4 7 rfl rfl)
theorem dX0_thing_98 : decode cX0_thing 98 = .ok (.ireturn, 1) := dk_172 (dk_at dksX0_thing_4 8 rfl rfl)
theorem dX0_thing_99 : decode cX0_thing 99 = .ok (.iconst (-1), 1) := dk_2 (dk_at dksX0_thing_4 9 rfl rfl)
theorem dX0_thing_100 : decode cX0_thing 100 = .ok (.ireturn, 1) := dk_172 (dk_at dksX0_thing_4 10 rfl rfl)
abbrev cX0_isThing : ByteArray := prog_1_method_19_code
def yX0_isThing : MethodName := ⟨RX0, "isThing", "(I)Z"⟩
def dkwX0_isThing_0 : List UInt8 := [27, 155, 0, 15, 27, 42, 182, 0, 181, 162, 0, 7, 4, 167, 0, 4, 3, 172]
abbrev dktX0_isThing_0 : List UInt8 := dkwX0_isThing_0 ++ []
theorem dksX0_isThing_0 : cX0_isThing.data.toList.drop 0 = dktX0_isThing_0 := by decide +kernel
theorem dX0_isThing_0 : decode cX0_isThing 0 = .ok (.iload_n 1, 1) := dk_27 (dk_at dksX0_isThing_0 0 rfl rfl)
theorem dX0_isThing_1 : decode cX0_isThing 1 = .ok (.ifCond .lt 15, 3) := dk_155 0 15 (dk_at dksX0_isThing_0 1 rfl rfl)
theorem dX0_isThing_4 : decode cX0_isThing 4 = .ok (.iload_n 1, 1) := dk_27 (dk_at dksX0_isThing_0 4 rfl rfl)
theorem dX0_isThing_5 : decode cX0_isThing 5 = .ok (.aload_n 0, 1) := dk_42 (dk_at dksX0_isThing_0 5 rfl rfl)
theorem dX0_isThing_6 : decode cX0_isThing 6 = .ok (.invokevirtual 181, 3) := dk_182 0 181 (dk_at dksX0_isThing_0 6 rfl rfl)
theorem dX0_isThing_9 : decode cX0_isThing 9 = .ok (.if_icmp .ge 7, 3) := dk_162 0 7 (dk_at dksX0_isThing_0 9 rfl rfl)
theorem dX0_isThing_12 : decode cX0_isThing 12 = .ok (.iconst 1, 1) := dk_4 (dk_at dksX0_isThing_0 12 rfl rfl)
theorem dX0_isThing_13 : decode cX0_isThing 13 = .ok (.goto 4, 3) := dk_167 0 4 (dk_at dksX0_isThing_0 13 rfl rfl)
theorem dX0_isThing_16 : decode cX0_isThing 16 = .ok (.iconst 0, 1) := dk_3 (dk_at dksX0_isThing_0 16 rfl rfl)
theorem dX0_isThing_17 : decode cX0_isThing 17 = .ok (.ireturn, 1) := dk_172 (dk_at dksX0_isThing_0 17 rfl rfl)
abbrev cX0_held : ByteArray := prog_1_method_3_code
def yX0_held : MethodName := ⟨RX0, "held", "(J)J"⟩
def dkwX0_held_0 : List UInt8 := [20, 0, 3, 20, 0, 5, 30, 184, 0, 7, 184, 0, 13, 173]
abbrev dktX0_held_0 : List UInt8 := dkwX0_held_0 ++ []
theorem dksX0_held_0 : cX0_held.data.toList.drop 0 = dktX0_held_0 := by decide +kernel
theorem dX0_held_0 : decode cX0_held 0 = .ok (.ldc2_w 3, 3) := dk_20 0 3 (dk_at dksX0_held_0 0 rfl rfl)
theorem dX0_held_3 : decode cX0_held 3 = .ok (.ldc2_w 5, 3) := dk_20 0 5 (dk_at dksX0_held_0 3 rfl rfl)
theorem dX0_held_6 : decode cX0_held 6 = .ok (.lload_n 0, 1) := dk_30 (dk_at dksX0_held_0 6 rfl rfl)
theorem dX0_held_7 : decode cX0_held 7 = .ok (.invokestatic 7, 3) := dk_184 0 7 (dk_at dksX0_held_0 7 rfl rfl)
theorem dX0_held_10 : decode cX0_held 10 = .ok (.invokestatic 13, 3) := dk_184 0 13 (dk_at dksX0_held_0 10 rfl rfl)
theorem dX0_held_13 : decode cX0_held 13 = .ok (.lreturn, 1) := dk_173 (dk_at dksX0_held_0 13 rfl rfl)
abbrev cX0_looked : ByteArray := prog_1_method_65_code
def yX0_looked : MethodName := ⟨RX0, "looked", "(IJ)J"⟩
def dkwX0_looked_3 : List UInt8 := [180, 0, 248, 32, 136, 182, 1, 30, 133, 167, 0, 6, 20, 1, 124, 173]
abbrev dktX0_looked_3 : List UInt8 := dkwX0_looked_3 ++ []
def dkwX0_looked_2 : List UInt8 := [155, 0, 34, 32, 42, 182, 0, 179, 133, 148, 156, 0, 24, 42, 42, 42, 180, 1, 121, 182, 0, 244]
abbrev dktX0_looked_2 : List UInt8 := dkwX0_looked_2 ++ dktX0_looked_3
def dkwX0_looked_1 : List UInt8 := [42, 180, 1, 121, 182, 1, 24, 32, 136, 184, 1, 20, 153, 0, 7, 10, 167, 0, 4, 9, 173, 32, 9, 148]
abbrev dktX0_looked_1 : List UInt8 := dkwX0_looked_1 ++ dktX0_looked_2
def dkwX0_looked_0 : List UInt8 := [27, 154, 0, 44, 32, 9, 148, 155, 0, 36, 32, 42, 182, 0, 181, 133, 148, 156, 0, 26, 42, 180, 0, 74]
abbrev dktX0_looked_0 : List UInt8 := dkwX0_looked_0 ++ dktX0_looked_1
theorem dksX0_looked_0 : cX0_looked.data.toList.drop 0 = dktX0_looked_0 := by decide +kernel
theorem dksX0_looked_1 : cX0_looked.data.toList.drop 24 = dktX0_looked_1 := dk_seg dksX0_looked_0 24 rfl rfl
theorem dksX0_looked_2 : cX0_looked.data.toList.drop 48 = dktX0_looked_2 := dk_seg dksX0_looked_1 24 rfl rfl
theorem dksX0_looked_3 : cX0_looked.data.toList.drop 70 = dktX0_looked_3 := dk_seg dksX0_looked_2 22 rfl rfl
theorem dX0_looked_0 : decode cX0_looked 0 = .ok (.iload_n 1, 1) := dk_27 (dk_at dksX0_looked_0 0 rfl rfl)
theorem dX0_looked_1 : decode cX0_looked 1 = .ok (.ifCond .ne 44, 3) := dk_154 0 44 (dk_at dksX0_looked_0 1 rfl rfl)
theorem dX0_looked_4 : decode cX0_looked 4 = .ok (.lload_n 2, 1) := dk_32 (dk_at dksX0_looked_0 4 rfl rfl)
theorem dX0_looked_5 : decode cX0_looked 5 = .ok (.lconst 0, 1) := dk_9 (dk_at dksX0_looked_0 5 rfl rfl)
theorem dX0_looked_6 : decode cX0_looked 6 = .ok (.lcmp, 1) := dk_148 (dk_at dksX0_looked_0 6 rfl rfl)
theorem dX0_looked_7 : decode cX0_looked 7 = .ok (.ifCond .lt 36, 3) := dk_155 0 36 (dk_at dksX0_looked_0 7 rfl rfl)
theorem dX0_looked_10 : decode cX0_looked 10 = .ok (.lload_n 2, 1) := dk_32 (dk_at dksX0_looked_0 10 rfl rfl)
theorem dX0_looked_11 : decode cX0_looked 11 = .ok (.aload_n 0, 1) := dk_42 (dk_at dksX0_looked_0 11 rfl rfl)
theorem dX0_looked_12 : decode cX0_looked 12 = .ok (.invokevirtual 181, 3) := dk_182 0 181 (dk_at dksX0_looked_0 12 rfl rfl)
theorem dX0_looked_15 : decode cX0_looked 15 = .ok (.i2l, 1) := dk_133 (dk_at dksX0_looked_0 15 rfl rfl)
theorem dX0_looked_16 : decode cX0_looked 16 = .ok (.lcmp, 1) := dk_148 (dk_at dksX0_looked_0 16 rfl rfl)
theorem dX0_looked_17 : decode cX0_looked 17 = .ok (.ifCond .ge 26, 3) := dk_156 0 26 (dk_at dksX0_looked_0 17 rfl rfl)
theorem dX0_looked_20 : decode cX0_looked 20 = .ok (.aload_n 0, 1) := dk_42 (dk_at dksX0_looked_0 20 rfl rfl)
theorem dX0_looked_21 : decode cX0_looked 21 = .ok (.getfield 74, 3) := dk_180 0 74 (dk_at dksX0_looked_0 21 rfl rfl)
theorem dX0_looked_24 : decode cX0_looked 24 = .ok (.aload_n 0, 1) := dk_42 (dk_at dksX0_looked_1 0 rfl rfl)
theorem dX0_looked_25 : decode cX0_looked 25 = .ok (.getfield 377, 3) := dk_180 1 121 (dk_at dksX0_looked_1 1 rfl rfl)
theorem dX0_looked_28 : decode cX0_looked 28 = .ok (.invokevirtual 280, 3) := dk_182 1 24 (dk_at dksX0_looked_1 4 rfl rfl)
theorem dX0_looked_31 : decode cX0_looked 31 = .ok (.lload_n 2, 1) := dk_32 (dk_at dksX0_looked_1 7 rfl rfl)
theorem dX0_looked_32 : decode cX0_looked 32 = .ok (.l2i, 1) := dk_136 (dk_at dksX0_looked_1 8 rfl rfl)
theorem dX0_looked_33 : decode cX0_looked 33 = .ok (.invokestatic 276, 3) := dk_184 1 20 (dk_at dksX0_looked_1 9 rfl rfl)
theorem dX0_looked_36 : decode cX0_looked 36 = .ok (.ifCond .eq 7, 3) := dk_153 0 7 (dk_at dksX0_looked_1 12 rfl rfl)
theorem dX0_looked_39 : decode cX0_looked 39 = .ok (.lconst 1, 1) := dk_10 (dk_at dksX0_looked_1 15 rfl rfl)
theorem dX0_looked_40 : decode cX0_looked 40 = .ok (.goto 4, 3) := dk_167 0 4 (dk_at dksX0_looked_1 16 rfl rfl)
theorem dX0_looked_43 : decode cX0_looked 43 = .ok (.lconst 0, 1) := dk_9 (dk_at dksX0_looked_1 19 rfl rfl)
theorem dX0_looked_44 : decode cX0_looked 44 = .ok (.lreturn, 1) := dk_173 (dk_at dksX0_looked_1 20 rfl rfl)
theorem dX0_looked_45 : decode cX0_looked 45 = .ok (.lload_n 2, 1) := dk_32 (dk_at dksX0_looked_1 21 rfl rfl)
theorem dX0_looked_46 : decode cX0_looked 46 = .ok (.lconst 0, 1) := dk_9 (dk_at dksX0_looked_1 22 rfl rfl)
theorem dX0_looked_47 : decode cX0_looked 47 = .ok (.lcmp, 1) := dk_148 (dk_at dksX0_looked_1 23 rfl rfl)
theorem dX0_looked_48 : decode cX0_looked 48 = .ok (.ifCond .lt 34, 3) := dk_155 0 34 (dk_at dksX0_looked_2 0 rfl rfl)
theorem dX0_looked_51 : decode cX0_looked 51 = .ok (.lload_n 2, 1) := dk_32 (dk_at dksX0_looked_2 3 rfl rfl)
theorem dX0_looked_52 : decode cX0_looked 52 = .ok (.aload_n 0, 1) := dk_42 (dk_at dksX0_looked_2 4 rfl rfl)
theorem dX0_looked_53 : decode cX0_looked 53 = .ok (.invokevirtual 179, 3) := dk_182 0 179 (dk_at dksX0_looked_2 5 rfl rfl)
theorem dX0_looked_56 : decode cX0_looked 56 = .ok (.i2l, 1) := dk_133 (dk_at dksX0_looked_2 8 rfl rfl)
theorem dX0_looked_57 : decode cX0_looked 57 = .ok (.lcmp, 1) := dk_148 (dk_at dksX0_looked_2 9 rfl rfl)
theorem dX0_looked_58 : decode cX0_looked 58 = .ok (.ifCond .ge 24, 3) := dk_156 0 24 (dk_at dksX0_looked_2 10 rfl rfl)
theorem dX0_looked_61 : decode cX0_looked 61 = .ok (.aload_n 0, 1) := dk_42 (dk_at dksX0_looked_2 13 rfl rfl)
theorem dX0_looked_62 : decode cX0_looked 62 = .ok (.aload_n 0, 1) := dk_42 (dk_at dksX0_looked_2 14 rfl rfl)
theorem dX0_looked_63 : decode cX0_looked 63 = .ok (.aload_n 0, 1) := dk_42 (dk_at dksX0_looked_2 15 rfl rfl)
theorem dX0_looked_64 : decode cX0_looked 64 = .ok (.getfield 377, 3) := dk_180 1 121 (dk_at dksX0_looked_2 16 rfl rfl)
theorem dX0_looked_67 : decode cX0_looked 67 = .ok (.invokevirtual 244, 3) := dk_182 0 244 (dk_at dksX0_looked_2 19 rfl rfl)
theorem dX0_looked_70 : decode cX0_looked 70 = .ok (.getfield 248, 3) := dk_180 0 248 (dk_at dksX0_looked_3 0 rfl rfl)
theorem dX0_looked_73 : decode cX0_looked 73 = .ok (.lload_n 2, 1) := dk_32 (dk_at dksX0_looked_3 3 rfl rfl)
theorem dX0_looked_74 : decode cX0_looked 74 = .ok (.l2i, 1) := dk_136 (dk_at dksX0_looked_3 4 rfl rfl)
theorem dX0_looked_75 : decode cX0_looked 75 = .ok (.invokevirtual 286, 3) := dk_182 1 30 (dk_at dksX0_looked_3 5 rfl rfl)
theorem dX0_looked_78 : decode cX0_looked 78 = .ok (.i2l, 1) := dk_133 (dk_at dksX0_looked_3 8 rfl rfl)
theorem dX0_looked_79 : decode cX0_looked 79 = .ok (.goto 6, 3) := dk_167 0 6 (dk_at dksX0_looked_3 9 rfl rfl)
theorem dX0_looked_82 : decode cX0_looked 82 = .ok (.ldc2_w 380, 3) := dk_20 1 124 (dk_at dksX0_looked_3 12 rfl rfl)
theorem dX0_looked_85 : decode cX0_looked 85 = .ok (.lreturn, 1) := dk_173 (dk_at dksX0_looked_3 15 rfl rfl)
abbrev cX0_tieOf : ByteArray := prog_1_method_22_code
def yX0_tieOf : MethodName := ⟨RX0, "tieOf", "(I)LFirstSnuffer$Tie;"⟩
def dkwX0_tieOf_0 : List UInt8 := [42, 180, 0, 31, 180, 0, 176, 27, 185, 0, 185, 2, 0, 192, 0, 191, 176]
abbrev dktX0_tieOf_0 : List UInt8 := dkwX0_tieOf_0 ++ []
theorem dksX0_tieOf_0 : cX0_tieOf.data.toList.drop 0 = dktX0_tieOf_0 := by decide +kernel
theorem dX0_tieOf_0 : decode cX0_tieOf 0 = .ok (.aload_n 0, 1) := dk_42 (dk_at dksX0_tieOf_0 0 rfl rfl)
theorem dX0_tieOf_1 : decode cX0_tieOf 1 = .ok (.getfield 31, 3) := dk_180 0 31 (dk_at dksX0_tieOf_0 1 rfl rfl)
theorem dX0_tieOf_4 : decode cX0_tieOf 4 = .ok (.getfield 176, 3) := dk_180 0 176 (dk_at dksX0_tieOf_0 4 rfl rfl)
theorem dX0_tieOf_7 : decode cX0_tieOf 7 = .ok (.iload_n 1, 1) := dk_27 (dk_at dksX0_tieOf_0 7 rfl rfl)
theorem dX0_tieOf_8 : decode cX0_tieOf 8 = .ok (.invokeinterface 185 2, 5) := by decide +kernel
theorem dX0_tieOf_13 : decode cX0_tieOf 13 = .ok (.checkcast 191, 3) := dk_192 0 191 (dk_at dksX0_tieOf_0 13 rfl rfl)
theorem dX0_tieOf_16 : decode cX0_tieOf 16 = .ok (.areturn, 1) := dk_176 (dk_at dksX0_tieOf_0 16 rfl rfl)
abbrev cX0_wayBetween : ByteArray := prog_1_method_25_code
def yX0_wayBetween : MethodName := ⟨RX0, "wayBetween", "(II)I"⟩
def dkwX0_wayBetween_1 : List UInt8 := [46, 172]
abbrev dktX0_wayBetween_1 : List UInt8 := dkwX0_wayBetween_1 ++ []
def dkwX0_wayBetween_0 : List UInt8 := [42, 180, 0, 68, 27, 50, 28, 46, 18, 193, 161, 0, 7, 2, 167, 0, 11, 42, 180, 0, 68, 27, 50, 28]
abbrev dktX0_wayBetween_0 : List UInt8 := dkwX0_wayBetween_0 ++ dktX0_wayBetween_1
theorem dksX0_wayBetween_0 : cX0_wayBetween.data.toList.drop 0 = dktX0_wayBetween_0 := by decide +kernel
theorem dksX0_wayBetween_1 : cX0_wayBetween.data.toList.drop 24 = dktX0_wayBetween_1 := dk_seg dksX0_wayBetween_0 24 rfl rfl
theorem dX0_wayBetween_0 : decode cX0_wayBetween 0 = .ok (.aload_n 0, 1) := dk_42 (dk_at dksX0_wayBetween_0 0 rfl rfl)
theorem dX0_wayBetween_1 : decode cX0_wayBetween 1 = .ok (.getfield 68, 3) := dk_180 0 68 (dk_at dksX0_wayBetween_0 1 rfl rfl)
theorem dX0_wayBetween_4 : decode cX0_wayBetween 4 = .ok (.iload_n 1, 1) := dk_27 (dk_at dksX0_wayBetween_0 4 rfl rfl)
theorem dX0_wayBetween_5 : decode cX0_wayBetween 5 = .ok (.aaload, 1) := dk_50 (dk_at dksX0_wayBetween_0 5 rfl rfl)
theorem dX0_wayBetween_6 : decode cX0_wayBetween 6 = .ok (.iload_n 2, 1) := dk_28 (dk_at dksX0_wayBetween_0 6 rfl rfl)
theorem dX0_wayBetween_7 : decode cX0_wayBetween 7 = .ok (.iaload, 1) := dk_46 (dk_at dksX0_wayBetween_0 7 rfl rfl)
theorem dX0_wayBetween_8 : decode cX0_wayBetween 8 = .ok (.ldc 193, 2) := dk_18 193 (dk_at dksX0_wayBetween_0 8 rfl rfl)
theorem dX0_wayBetween_10 : decode cX0_wayBetween 10 = .ok (.if_icmp .lt 7, 3) := dk_161 0 7 (dk_at dksX0_wayBetween_0 10 rfl rfl)
theorem dX0_wayBetween_13 : decode cX0_wayBetween 13 = .ok (.iconst (-1), 1) := dk_2 (dk_at dksX0_wayBetween_0 13 rfl rfl)
theorem dX0_wayBetween_14 : decode cX0_wayBetween 14 = .ok (.goto 11, 3) := dk_167 0 11 (dk_at dksX0_wayBetween_0 14 rfl rfl)
theorem dX0_wayBetween_17 : decode cX0_wayBetween 17 = .ok (.aload_n 0, 1) := dk_42 (dk_at dksX0_wayBetween_0 17 rfl rfl)
theorem dX0_wayBetween_18 : decode cX0_wayBetween 18 = .ok (.getfield 68, 3) := dk_180 0 68 (dk_at dksX0_wayBetween_0 18 rfl rfl)
theorem dX0_wayBetween_21 : decode cX0_wayBetween 21 = .ok (.iload_n 1, 1) := dk_27 (dk_at dksX0_wayBetween_0 21 rfl rfl)
theorem dX0_wayBetween_22 : decode cX0_wayBetween 22 = .ok (.aaload, 1) := dk_50 (dk_at dksX0_wayBetween_0 22 rfl rfl)
theorem dX0_wayBetween_23 : decode cX0_wayBetween 23 = .ok (.iload_n 2, 1) := dk_28 (dk_at dksX0_wayBetween_0 23 rfl rfl)
theorem dX0_wayBetween_24 : decode cX0_wayBetween 24 = .ok (.iaload, 1) := dk_46 (dk_at dksX0_wayBetween_1 0 rfl rfl)
theorem dX0_wayBetween_25 : decode cX0_wayBetween 25 = .ok (.ireturn, 1) := dk_172 (dk_at dksX0_wayBetween_1 1 rfl rfl)
abbrev cX0_tie : ByteArray := prog_1_method_29_code
def yX0_tie : MethodName := ⟨RX0, "tie", "(II)I"⟩
def dkwX0_tie_2 : List UInt8 := [42, 180, 0, 74, 180, 0, 225, 27, 184, 1, 20, 153, 0, 7, 4, 167, 0, 8, 3, 167, 0, 4, 2, 172]
abbrev dktX0_tie_2 : List UInt8 := dkwX0_tie_2 ++ []
def dkwX0_tie_1 : List UInt8 := [167, 0, 47, 28, 4, 160, 0, 14, 42, 27, 182, 1, 10, 180, 1, 17, 167, 0, 31, 28, 5, 160, 0, 25]
abbrev dktX0_tie_1 : List UInt8 := dkwX0_tie_1 ++ dktX0_tie_2
def dkwX0_tie_0 : List UInt8 := [42, 27, 182, 1, 7, 154, 0, 7, 2, 167, 0, 62, 28, 154, 0, 14, 42, 27, 182, 1, 10, 180, 1, 14]
abbrev dktX0_tie_0 : List UInt8 := dkwX0_tie_0 ++ dktX0_tie_1
theorem dksX0_tie_0 : cX0_tie.data.toList.drop 0 = dktX0_tie_0 := by decide +kernel
theorem dksX0_tie_1 : cX0_tie.data.toList.drop 24 = dktX0_tie_1 := dk_seg dksX0_tie_0 24 rfl rfl
theorem dksX0_tie_2 : cX0_tie.data.toList.drop 48 = dktX0_tie_2 := dk_seg dksX0_tie_1 24 rfl rfl
theorem dX0_tie_0 : decode cX0_tie 0 = .ok (.aload_n 0, 1) := dk_42 (dk_at dksX0_tie_0 0 rfl rfl)
theorem dX0_tie_1 : decode cX0_tie 1 = .ok (.iload_n 1, 1) := dk_27 (dk_at dksX0_tie_0 1 rfl rfl)
theorem dX0_tie_2 : decode cX0_tie 2 = .ok (.invokevirtual 263, 3) := dk_182 1 7 (dk_at dksX0_tie_0 2 rfl rfl)
theorem dX0_tie_5 : decode cX0_tie 5 = .ok (.ifCond .ne 7, 3) := dk_154 0 7 (dk_at dksX0_tie_0 5 rfl rfl)
theorem dX0_tie_8 : decode cX0_tie 8 = .ok (.iconst (-1), 1) := dk_2 (dk_at dksX0_tie_0 8 rfl rfl)
theorem dX0_tie_9 : decode cX0_tie 9 = .ok (.goto 62, 3) := dk_167 0 62 (dk_at dksX0_tie_0 9 rfl rfl)
theorem dX0_tie_12 : decode cX0_tie 12 = .ok (.iload_n 2, 1) := dk_28 (dk_at dksX0_tie_0 12 rfl rfl)
theorem dX0_tie_13 : decode cX0_tie 13 = .ok (.ifCond .ne 14, 3) := dk_154 0 14 (dk_at dksX0_tie_0 13 rfl rfl)
theorem dX0_tie_16 : decode cX0_tie 16 = .ok (.aload_n 0, 1) := dk_42 (dk_at dksX0_tie_0 16 rfl rfl)
theorem dX0_tie_17 : decode cX0_tie 17 = .ok (.iload_n 1, 1) := dk_27 (dk_at dksX0_tie_0 17 rfl rfl)
theorem dX0_tie_18 : decode cX0_tie 18 = .ok (.invokevirtual 266, 3) := dk_182 1 10 (dk_at dksX0_tie_0 18 rfl rfl)
theorem dX0_tie_21 : decode cX0_tie 21 = .ok (.getfield 270, 3) := dk_180 1 14 (dk_at dksX0_tie_0 21 rfl rfl)
theorem dX0_tie_24 : decode cX0_tie 24 = .ok (.goto 47, 3) := dk_167 0 47 (dk_at dksX0_tie_1 0 rfl rfl)
theorem dX0_tie_27 : decode cX0_tie 27 = .ok (.iload_n 2, 1) := dk_28 (dk_at dksX0_tie_1 3 rfl rfl)
theorem dX0_tie_28 : decode cX0_tie 28 = .ok (.iconst 1, 1) := dk_4 (dk_at dksX0_tie_1 4 rfl rfl)
theorem dX0_tie_29 : decode cX0_tie 29 = .ok (.if_icmp .ne 14, 3) := dk_160 0 14 (dk_at dksX0_tie_1 5 rfl rfl)
theorem dX0_tie_32 : decode cX0_tie 32 = .ok (.aload_n 0, 1) := dk_42 (dk_at dksX0_tie_1 8 rfl rfl)
theorem dX0_tie_33 : decode cX0_tie 33 = .ok (.iload_n 1, 1) := dk_27 (dk_at dksX0_tie_1 9 rfl rfl)
theorem dX0_tie_34 : decode cX0_tie 34 = .ok (.invokevirtual 266, 3) := dk_182 1 10 (dk_at dksX0_tie_1 10 rfl rfl)
theorem dX0_tie_37 : decode cX0_tie 37 = .ok (.getfield 273, 3) := dk_180 1 17 (dk_at dksX0_tie_1 13 rfl rfl)
theorem dX0_tie_40 : decode cX0_tie 40 = .ok (.goto 31, 3) := dk_167 0 31 (dk_at dksX0_tie_1 16 rfl rfl)
theorem dX0_tie_43 : decode cX0_tie 43 = .ok (.iload_n 2, 1) := dk_28 (dk_at dksX0_tie_1 19 rfl rfl)
theorem dX0_tie_44 : decode cX0_tie 44 = .ok (.iconst 2, 1) := dk_5 (dk_at dksX0_tie_1 20 rfl rfl)
theorem dX0_tie_45 : decode cX0_tie 45 = .ok (.if_icmp .ne 25, 3) := dk_160 0 25 (dk_at dksX0_tie_1 21 rfl rfl)
theorem dX0_tie_48 : decode cX0_tie 48 = .ok (.aload_n 0, 1) := dk_42 (dk_at dksX0_tie_2 0 rfl rfl)
theorem dX0_tie_49 : decode cX0_tie 49 = .ok (.getfield 74, 3) := dk_180 0 74 (dk_at dksX0_tie_2 1 rfl rfl)
theorem dX0_tie_52 : decode cX0_tie 52 = .ok (.getfield 225, 3) := dk_180 0 225 (dk_at dksX0_tie_2 4 rfl rfl)
theorem dX0_tie_55 : decode cX0_tie 55 = .ok (.iload_n 1, 1) := dk_27 (dk_at dksX0_tie_2 7 rfl rfl)
theorem dX0_tie_56 : decode cX0_tie 56 = .ok (.invokestatic 276, 3) := dk_184 1 20 (dk_at dksX0_tie_2 8 rfl rfl)
theorem dX0_tie_59 : decode cX0_tie 59 = .ok (.ifCond .eq 7, 3) := dk_153 0 7 (dk_at dksX0_tie_2 11 rfl rfl)
theorem dX0_tie_62 : decode cX0_tie 62 = .ok (.iconst 1, 1) := dk_4 (dk_at dksX0_tie_2 14 rfl rfl)
theorem dX0_tie_63 : decode cX0_tie 63 = .ok (.goto 8, 3) := dk_167 0 8 (dk_at dksX0_tie_2 15 rfl rfl)
theorem dX0_tie_66 : decode cX0_tie 66 = .ok (.iconst 0, 1) := dk_3 (dk_at dksX0_tie_2 18 rfl rfl)
theorem dX0_tie_67 : decode cX0_tie 67 = .ok (.goto 4, 3) := dk_167 0 4 (dk_at dksX0_tie_2 19 rfl rfl)
theorem dX0_tie_70 : decode cX0_tie 70 = .ok (.iconst (-1), 1) := dk_2 (dk_at dksX0_tie_2 22 rfl rfl)
theorem dX0_tie_71 : decode cX0_tie 71 = .ok (.ireturn, 1) := dk_172 (dk_at dksX0_tie_2 23 rfl rfl)
abbrev cX0_isTie : ByteArray := prog_1_method_20_code
def yX0_isTie : MethodName := ⟨RX0, "isTie", "(I)Z"⟩
def dkwX0_isTie_0 : List UInt8 := [27, 155, 0, 15, 27, 42, 182, 0, 183, 162, 0, 7, 4, 167, 0, 4, 3, 172]
abbrev dktX0_isTie_0 : List UInt8 := dkwX0_isTie_0 ++ []
theorem dksX0_isTie_0 : cX0_isTie.data.toList.drop 0 = dktX0_isTie_0 := by decide +kernel
theorem dX0_isTie_0 : decode cX0_isTie 0 = .ok (.iload_n 1, 1) := dk_27 (dk_at dksX0_isTie_0 0 rfl rfl)
theorem dX0_isTie_1 : decode cX0_isTie 1 = .ok (.ifCond .lt 15, 3) := dk_155 0 15 (dk_at dksX0_isTie_0 1 rfl rfl)
theorem dX0_isTie_4 : decode cX0_isTie 4 = .ok (.iload_n 1, 1) := dk_27 (dk_at dksX0_isTie_0 4 rfl rfl)
theorem dX0_isTie_5 : decode cX0_isTie 5 = .ok (.aload_n 0, 1) := dk_42 (dk_at dksX0_isTie_0 5 rfl rfl)
theorem dX0_isTie_6 : decode cX0_isTie 6 = .ok (.invokevirtual 183, 3) := dk_182 0 183 (dk_at dksX0_isTie_0 6 rfl rfl)
theorem dX0_isTie_9 : decode cX0_isTie 9 = .ok (.if_icmp .ge 7, 3) := dk_162 0 7 (dk_at dksX0_isTie_0 9 rfl rfl)
theorem dX0_isTie_12 : decode cX0_isTie 12 = .ok (.iconst 1, 1) := dk_4 (dk_at dksX0_isTie_0 12 rfl rfl)
theorem dX0_isTie_13 : decode cX0_isTie 13 = .ok (.goto 4, 3) := dk_167 0 4 (dk_at dksX0_isTie_0 13 rfl rfl)
theorem dX0_isTie_16 : decode cX0_isTie 16 = .ok (.iconst 0, 1) := dk_3 (dk_at dksX0_isTie_0 16 rfl rfl)
theorem dX0_isTie_17 : decode cX0_isTie 17 = .ok (.ireturn, 1) := dk_172 (dk_at dksX0_isTie_0 17 rfl rfl)
abbrev cX0_ends : ByteArray := prog_1_method_30_code
def yX0_ends : MethodName := ⟨RX0, "ends", "(I)I"⟩
def dkwX0_ends_0 : List UInt8 := [42, 27, 182, 0, 240, 153, 0, 14, 42, 180, 0, 74, 27, 182, 1, 24, 167, 0, 4, 2, 172]
abbrev dktX0_ends_0 : List UInt8 := dkwX0_ends_0 ++ []
theorem dksX0_ends_0 : cX0_ends.data.toList.drop 0 = dktX0_ends_0 := by decide +kernel
theorem dX0_ends_0 : decode cX0_ends 0 = .ok (.aload_n 0, 1) := dk_42 (dk_at dksX0_ends_0 0 rfl rfl)
theorem dX0_ends_1 : decode cX0_ends 1 = .ok (.iload_n 1, 1) := dk_27 (dk_at dksX0_ends_0 1 rfl rfl)
theorem dX0_ends_2 : decode cX0_ends 2 = .ok (.invokevirtual 240, 3) := dk_182 0 240 (dk_at dksX0_ends_0 2 rfl rfl)
theorem dX0_ends_5 : decode cX0_ends 5 = .ok (.ifCond .eq 14, 3) := dk_153 0 14 (dk_at dksX0_ends_0 5 rfl rfl)
theorem dX0_ends_8 : decode cX0_ends 8 = .ok (.aload_n 0, 1) := dk_42 (dk_at dksX0_ends_0 8 rfl rfl)
theorem dX0_ends_9 : decode cX0_ends 9 = .ok (.getfield 74, 3) := dk_180 0 74 (dk_at dksX0_ends_0 9 rfl rfl)
theorem dX0_ends_12 : decode cX0_ends 12 = .ok (.iload_n 1, 1) := dk_27 (dk_at dksX0_ends_0 12 rfl rfl)
theorem dX0_ends_13 : decode cX0_ends 13 = .ok (.invokevirtual 280, 3) := dk_182 1 24 (dk_at dksX0_ends_0 13 rfl rfl)
theorem dX0_ends_16 : decode cX0_ends 16 = .ok (.goto 4, 3) := dk_167 0 4 (dk_at dksX0_ends_0 16 rfl rfl)
theorem dX0_ends_19 : decode cX0_ends 19 = .ok (.iconst (-1), 1) := dk_2 (dk_at dksX0_ends_0 19 rfl rfl)
theorem dX0_ends_20 : decode cX0_ends 20 = .ok (.ireturn, 1) := dk_172 (dk_at dksX0_ends_0 20 rfl rfl)
abbrev cX0_way : ByteArray := prog_1_method_31_code
def yX0_way : MethodName := ⟨RX0, "way", "(II)I"⟩
def dkwX0_way_1 : List UInt8 := [167, 0, 4, 2, 172]
abbrev dktX0_way_1 : List UInt8 := dkwX0_way_1 ++ []
def dkwX0_way_0 : List UInt8 := [42, 27, 182, 1, 27, 153, 0, 20, 42, 28, 182, 1, 27, 153, 0, 12, 42, 27, 28, 182, 1, 30]
abbrev dktX0_way_0 : List UInt8 := dkwX0_way_0 ++ dktX0_way_1
theorem dksX0_way_0 : cX0_way.data.toList.drop 0 = dktX0_way_0 := by decide +kernel
theorem dksX0_way_1 : cX0_way.data.toList.drop 22 = dktX0_way_1 := dk_seg dksX0_way_0 22 rfl rfl
theorem dX0_way_0 : decode cX0_way 0 = .ok (.aload_n 0, 1) := dk_42 (dk_at dksX0_way_0 0 rfl rfl)
theorem dX0_way_1 : decode cX0_way 1 = .ok (.iload_n 1, 1) := dk_27 (dk_at dksX0_way_0 1 rfl rfl)
theorem dX0_way_2 : decode cX0_way 2 = .ok (.invokevirtual 283, 3) := dk_182 1 27 (dk_at dksX0_way_0 2 rfl rfl)
theorem dX0_way_5 : decode cX0_way 5 = .ok (.ifCond .eq 20, 3) := dk_153 0 20 (dk_at dksX0_way_0 5 rfl rfl)
theorem dX0_way_8 : decode cX0_way 8 = .ok (.aload_n 0, 1) := dk_42 (dk_at dksX0_way_0 8 rfl rfl)
theorem dX0_way_9 : decode cX0_way 9 = .ok (.iload_n 2, 1) := dk_28 (dk_at dksX0_way_0 9 rfl rfl)
theorem dX0_way_10 : decode cX0_way 10 = .ok (.invokevirtual 283, 3) := dk_182 1 27 (dk_at dksX0_way_0 10 rfl rfl)
theorem dX0_way_13 : decode cX0_way 13 = .ok (.ifCond .eq 12, 3) := dk_153 0 12 (dk_at dksX0_way_0 13 rfl rfl)
theorem dX0_way_16 : decode cX0_way 16 = .ok (.aload_n 0, 1) := dk_42 (dk_at dksX0_way_0 16 rfl rfl)
theorem dX0_way_17 : decode cX0_way 17 = .ok (.iload_n 1, 1) := dk_27 (dk_at dksX0_way_0 17 rfl rfl)
theorem dX0_way_18 : decode cX0_way 18 = .ok (.iload_n 2, 1) := dk_28 (dk_at dksX0_way_0 18 rfl rfl)
theorem dX0_way_19 : decode cX0_way 19 = .ok (.invokevirtual 286, 3) := dk_182 1 30 (dk_at dksX0_way_0 19 rfl rfl)
theorem dX0_way_22 : decode cX0_way 22 = .ok (.goto 4, 3) := dk_167 0 4 (dk_at dksX0_way_1 0 rfl rfl)
theorem dX0_way_25 : decode cX0_way 25 = .ok (.iconst (-1), 1) := dk_2 (dk_at dksX0_way_1 3 rfl rfl)
theorem dX0_way_26 : decode cX0_way 26 = .ok (.ireturn, 1) := dk_172 (dk_at dksX0_way_1 4 rfl rfl)
abbrev cX0_isHall : ByteArray := prog_1_method_18_code
def yX0_isHall : MethodName := ⟨RX0, "isHall", "(I)Z"⟩
def dkwX0_isHall_0 : List UInt8 := [27, 155, 0, 15, 27, 42, 182, 0, 179, 162, 0, 7, 4, 167, 0, 4, 3, 172]
abbrev dktX0_isHall_0 : List UInt8 := dkwX0_isHall_0 ++ []
theorem dksX0_isHall_0 : cX0_isHall.data.toList.drop 0 = dktX0_isHall_0 := by decide +kernel
theorem dX0_isHall_0 : decode cX0_isHall 0 = .ok (.iload_n 1, 1) := dk_27 (dk_at dksX0_isHall_0 0 rfl rfl)
theorem dX0_isHall_1 : decode cX0_isHall 1 = .ok (.ifCond .lt 15, 3) := dk_155 0 15 (dk_at dksX0_isHall_0 1 rfl rfl)
theorem dX0_isHall_4 : decode cX0_isHall 4 = .ok (.iload_n 1, 1) := dk_27 (dk_at dksX0_isHall_0 4 rfl rfl)
theorem dX0_isHall_5 : decode cX0_isHall 5 = .ok (.aload_n 0, 1) := dk_42 (dk_at dksX0_isHall_0 5 rfl rfl)
theorem dX0_isHall_6 : decode cX0_isHall 6 = .ok (.invokevirtual 179, 3) := dk_182 0 179 (dk_at dksX0_isHall_0 6 rfl rfl)
theorem dX0_isHall_9 : decode cX0_isHall 9 = .ok (.if_icmp .ge 7, 3) := dk_162 0 7 (dk_at dksX0_isHall_0 9 rfl rfl)
theorem dX0_isHall_12 : decode cX0_isHall 12 = .ok (.iconst 1, 1) := dk_4 (dk_at dksX0_isHall_0 12 rfl rfl)
theorem dX0_isHall_13 : decode cX0_isHall 13 = .ok (.goto 4, 3) := dk_167 0 4 (dk_at dksX0_isHall_0 13 rfl rfl)
theorem dX0_isHall_16 : decode cX0_isHall 16 = .ok (.iconst 0, 1) := dk_3 (dk_at dksX0_isHall_0 16 rfl rfl)
theorem dX0_isHall_17 : decode cX0_isHall 17 = .ok (.ireturn, 1) := dk_172 (dk_at dksX0_isHall_0 17 rfl rfl)
abbrev cX0_kept : ByteArray := prog_1_method_32_code
def yX0_kept : MethodName := ⟨RX0, "kept", "(II)I"⟩
def dkwX0_kept_1 : List UInt8 := [153, 0, 17, 42, 180, 0, 74, 180, 1, 33, 27, 50, 28, 46, 167, 0, 4, 2, 172]
abbrev dktX0_kept_1 : List UInt8 := dkwX0_kept_1 ++ []
def dkwX0_kept_0 : List UInt8 := [27, 3, 42, 180, 0, 74, 180, 0, 228, 4, 100, 184, 0, 231, 153, 0, 26, 28, 3, 5, 184, 0, 231]
abbrev dktX0_kept_0 : List UInt8 := dkwX0_kept_0 ++ dktX0_kept_1
theorem dksX0_kept_0 : cX0_kept.data.toList.drop 0 = dktX0_kept_0 := by decide +kernel
theorem dksX0_kept_1 : cX0_kept.data.toList.drop 23 = dktX0_kept_1 := dk_seg dksX0_kept_0 23 rfl rfl
theorem dX0_kept_0 : decode cX0_kept 0 = .ok (.iload_n 1, 1) := dk_27 (dk_at dksX0_kept_0 0 rfl rfl)
theorem dX0_kept_1 : decode cX0_kept 1 = .ok (.iconst 0, 1) := dk_3 (dk_at dksX0_kept_0 1 rfl rfl)
theorem dX0_kept_2 : decode cX0_kept 2 = .ok (.aload_n 0, 1) := dk_42 (dk_at dksX0_kept_0 2 rfl rfl)
theorem dX0_kept_3 : decode cX0_kept 3 = .ok (.getfield 74, 3) := dk_180 0 74 (dk_at dksX0_kept_0 3 rfl rfl)
theorem dX0_kept_6 : decode cX0_kept 6 = .ok (.getfield 228, 3) := dk_180 0 228 (dk_at dksX0_kept_0 6 rfl rfl)
theorem dX0_kept_9 : decode cX0_kept 9 = .ok (.iconst 1, 1) := dk_4 (dk_at dksX0_kept_0 9 rfl rfl)
theorem dX0_kept_10 : decode cX0_kept 10 = .ok (.isub, 1) := dk_100 (dk_at dksX0_kept_0 10 rfl rfl)
theorem dX0_kept_11 : decode cX0_kept 11 = .ok (.invokestatic 231, 3) := dk_184 0 231 (dk_at dksX0_kept_0 11 rfl rfl)
theorem dX0_kept_14 : decode cX0_kept 14 = .ok (.ifCond .eq 26, 3) := dk_153 0 26 (dk_at dksX0_kept_0 14 rfl rfl)
theorem dX0_kept_17 : decode cX0_kept 17 = .ok (.iload_n 2, 1) := dk_28 (dk_at dksX0_kept_0 17 rfl rfl)
theorem dX0_kept_18 : decode cX0_kept 18 = .ok (.iconst 0, 1) := dk_3 (dk_at dksX0_kept_0 18 rfl rfl)
theorem dX0_kept_19 : decode cX0_kept 19 = .ok (.iconst 2, 1) := dk_5 (dk_at dksX0_kept_0 19 rfl rfl)
theorem dX0_kept_20 : decode cX0_kept 20 = .ok (.invokestatic 231, 3) := dk_184 0 231 (dk_at dksX0_kept_0 20 rfl rfl)
theorem dX0_kept_23 : decode cX0_kept 23 = .ok (.ifCond .eq 17, 3) := dk_153 0 17 (dk_at dksX0_kept_1 0 rfl rfl)
theorem dX0_kept_26 : decode cX0_kept 26 = .ok (.aload_n 0, 1) := dk_42 (dk_at dksX0_kept_1 3 rfl rfl)
theorem dX0_kept_27 : decode cX0_kept 27 = .ok (.getfield 74, 3) := dk_180 0 74 (dk_at dksX0_kept_1 4 rfl rfl)
theorem dX0_kept_30 : decode cX0_kept 30 = .ok (.getfield 289, 3) := dk_180 1 33 (dk_at dksX0_kept_1 7 rfl rfl)
theorem dX0_kept_33 : decode cX0_kept 33 = .ok (.iload_n 1, 1) := dk_27 (dk_at dksX0_kept_1 10 rfl rfl)
theorem dX0_kept_34 : decode cX0_kept 34 = .ok (.aaload, 1) := dk_50 (dk_at dksX0_kept_1 11 rfl rfl)
theorem dX0_kept_35 : decode cX0_kept 35 = .ok (.iload_n 2, 1) := dk_28 (dk_at dksX0_kept_1 12 rfl rfl)
theorem dX0_kept_36 : decode cX0_kept 36 = .ok (.iaload, 1) := dk_46 (dk_at dksX0_kept_1 13 rfl rfl)
theorem dX0_kept_37 : decode cX0_kept 37 = .ok (.goto 4, 3) := dk_167 0 4 (dk_at dksX0_kept_1 14 rfl rfl)
theorem dX0_kept_40 : decode cX0_kept 40 = .ok (.iconst (-1), 1) := dk_2 (dk_at dksX0_kept_1 17 rfl rfl)
theorem dX0_kept_41 : decode cX0_kept 41 = .ok (.ireturn, 1) := dk_172 (dk_at dksX0_kept_1 18 rfl rfl)
abbrev cX0_later : ByteArray := prog_1_method_34_code
def yX0_later : MethodName := ⟨RX0, "later", "(II)I"⟩
def dkwX0_later_2 : List UInt8 := [172]
abbrev dktX0_later_2 : List UInt8 := dkwX0_later_2 ++ []
def dkwX0_later_1 : List UInt8 := [180, 0, 78, 42, 180, 0, 74, 182, 1, 38, 28, 182, 1, 42, 87, 42, 180, 0, 78, 180, 0, 254, 27, 46]
abbrev dktX0_later_1 : List UInt8 := dkwX0_later_1 ++ dktX0_later_2
def dkwX0_later_0 : List UInt8 := [42, 27, 182, 0, 240, 153, 0, 14, 42, 28, 3, 16, 60, 182, 1, 35, 154, 0, 5, 2, 172, 42]
abbrev dktX0_later_0 : List UInt8 := dkwX0_later_0 ++ dktX0_later_1
theorem dksX0_later_0 : cX0_later.data.toList.drop 0 = dktX0_later_0 := by decide +kernel
theorem dksX0_later_1 : cX0_later.data.toList.drop 22 = dktX0_later_1 := dk_seg dksX0_later_0 22 rfl rfl
theorem dksX0_later_2 : cX0_later.data.toList.drop 46 = dktX0_later_2 := dk_seg dksX0_later_1 24 rfl rfl
theorem dX0_later_0 : decode cX0_later 0 = .ok (.aload_n 0, 1) := dk_42 (dk_at dksX0_later_0 0 rfl rfl)
theorem dX0_later_1 : decode cX0_later 1 = .ok (.iload_n 1, 1) := dk_27 (dk_at dksX0_later_0 1 rfl rfl)
theorem dX0_later_2 : decode cX0_later 2 = .ok (.invokevirtual 240, 3) := dk_182 0 240 (dk_at dksX0_later_0 2 rfl rfl)
theorem dX0_later_5 : decode cX0_later 5 = .ok (.ifCond .eq 14, 3) := dk_153 0 14 (dk_at dksX0_later_0 5 rfl rfl)
theorem dX0_later_8 : decode cX0_later 8 = .ok (.aload_n 0, 1) := dk_42 (dk_at dksX0_later_0 8 rfl rfl)
theorem dX0_later_9 : decode cX0_later 9 = .ok (.iload_n 2, 1) := dk_28 (dk_at dksX0_later_0 9 rfl rfl)
theorem dX0_later_10 : decode cX0_later 10 = .ok (.iconst 0, 1) := dk_3 (dk_at dksX0_later_0 10 rfl rfl)
theorem dX0_later_11 : decode cX0_later 11 = .ok (.bipush 60, 2) := dk_16 60 (dk_at dksX0_later_0 11 rfl rfl)
theorem dX0_later_13 : decode cX0_later 13 = .ok (.invokevirtual 291, 3) := dk_182 1 35 (dk_at dksX0_later_0 13 rfl rfl)
theorem dX0_later_16 : decode cX0_later 16 = .ok (.ifCond .ne 5, 3) := dk_154 0 5 (dk_at dksX0_later_0 16 rfl rfl)
theorem dX0_later_19 : decode cX0_later 19 = .ok (.iconst (-1), 1) := dk_2 (dk_at dksX0_later_0 19 rfl rfl)
theorem dX0_later_20 : decode cX0_later 20 = .ok (.ireturn, 1) := dk_172 (dk_at dksX0_later_0 20 rfl rfl)
theorem dX0_later_21 : decode cX0_later 21 = .ok (.aload_n 0, 1) := dk_42 (dk_at dksX0_later_0 21 rfl rfl)
theorem dX0_later_22 : decode cX0_later 22 = .ok (.getfield 78, 3) := dk_180 0 78 (dk_at dksX0_later_1 0 rfl rfl)
theorem dX0_later_25 : decode cX0_later 25 = .ok (.aload_n 0, 1) := dk_42 (dk_at dksX0_later_1 3 rfl rfl)
theorem dX0_later_26 : decode cX0_later 26 = .ok (.getfield 74, 3) := dk_180 0 74 (dk_at dksX0_later_1 4 rfl rfl)
theorem dX0_later_29 : decode cX0_later 29 = .ok (.invokevirtual 294, 3) := dk_182 1 38 (dk_at dksX0_later_1 7 rfl rfl)
theorem dX0_later_32 : decode cX0_later 32 = .ok (.iload_n 2, 1) := dk_28 (dk_at dksX0_later_1 10 rfl rfl)
theorem dX0_later_33 : decode cX0_later 33 = .ok (.invokevirtual 298, 3) := dk_182 1 42 (dk_at dksX0_later_1 11 rfl rfl)
theorem dX0_later_36 : decode cX0_later 36 = .ok (.pop, 1) := dk_87 (dk_at dksX0_later_1 14 rfl rfl)
theorem dX0_later_37 : decode cX0_later 37 = .ok (.aload_n 0, 1) := dk_42 (dk_at dksX0_later_1 15 rfl rfl)
theorem dX0_later_38 : decode cX0_later 38 = .ok (.getfield 78, 3) := dk_180 0 78 (dk_at dksX0_later_1 16 rfl rfl)
theorem dX0_later_41 : decode cX0_later 41 = .ok (.getfield 254, 3) := dk_180 0 254 (dk_at dksX0_later_1 19 rfl rfl)
theorem dX0_later_44 : decode cX0_later 44 = .ok (.iload_n 1, 1) := dk_27 (dk_at dksX0_later_1 22 rfl rfl)
theorem dX0_later_45 : decode cX0_later 45 = .ok (.iaload, 1) := dk_46 (dk_at dksX0_later_1 23 rfl rfl)
theorem dX0_later_46 : decode cX0_later 46 = .ok (.ireturn, 1) := dk_172 (dk_at dksX0_later_2 0 rfl rfl)
abbrev cX0_isAhead : ByteArray := prog_1_method_33_code
def yX0_isAhead : MethodName := ⟨RX0, "isAhead", "(III)Z"⟩
def dkwX0_isAhead_1 : List UInt8 := [4, 167, 0, 4, 3, 172]
abbrev dktX0_isAhead_1 : List UInt8 := dkwX0_isAhead_1 ++ []
def dkwX0_isAhead_0 : List UInt8 := [27, 28, 29, 184, 0, 231, 153, 0, 22, 42, 180, 0, 74, 180, 0, 211, 27, 96, 17, 3, 231, 163, 0, 7]
abbrev dktX0_isAhead_0 : List UInt8 := dkwX0_isAhead_0 ++ dktX0_isAhead_1
theorem dksX0_isAhead_0 : cX0_isAhead.data.toList.drop 0 = dktX0_isAhead_0 := by decide +kernel
theorem dksX0_isAhead_1 : cX0_isAhead.data.toList.drop 24 = dktX0_isAhead_1 := dk_seg dksX0_isAhead_0 24 rfl rfl
theorem dX0_isAhead_0 : decode cX0_isAhead 0 = .ok (.iload_n 1, 1) := dk_27 (dk_at dksX0_isAhead_0 0 rfl rfl)
theorem dX0_isAhead_1 : decode cX0_isAhead 1 = .ok (.iload_n 2, 1) := dk_28 (dk_at dksX0_isAhead_0 1 rfl rfl)
theorem dX0_isAhead_2 : decode cX0_isAhead 2 = .ok (.iload_n 3, 1) := dk_29 (dk_at dksX0_isAhead_0 2 rfl rfl)
theorem dX0_isAhead_3 : decode cX0_isAhead 3 = .ok (.invokestatic 231, 3) := dk_184 0 231 (dk_at dksX0_isAhead_0 3 rfl rfl)
theorem dX0_isAhead_6 : decode cX0_isAhead 6 = .ok (.ifCond .eq 22, 3) := dk_153 0 22 (dk_at dksX0_isAhead_0 6 rfl rfl)
theorem dX0_isAhead_9 : decode cX0_isAhead 9 = .ok (.aload_n 0, 1) := dk_42 (dk_at dksX0_isAhead_0 9 rfl rfl)
theorem dX0_isAhead_10 : decode cX0_isAhead 10 = .ok (.getfield 74, 3) := dk_180 0 74 (dk_at dksX0_isAhead_0 10 rfl rfl)
theorem dX0_isAhead_13 : decode cX0_isAhead 13 = .ok (.getfield 211, 3) := dk_180 0 211 (dk_at dksX0_isAhead_0 13 rfl rfl)
theorem dX0_isAhead_16 : decode cX0_isAhead 16 = .ok (.iload_n 1, 1) := dk_27 (dk_at dksX0_isAhead_0 16 rfl rfl)
theorem dX0_isAhead_17 : decode cX0_isAhead 17 = .ok (.iadd, 1) := dk_96 (dk_at dksX0_isAhead_0 17 rfl rfl)
theorem dX0_isAhead_18 : decode cX0_isAhead 18 = .ok (.sipush 999, 3) := dk_17 3 231 (dk_at dksX0_isAhead_0 18 rfl rfl)
theorem dX0_isAhead_21 : decode cX0_isAhead 21 = .ok (.if_icmp .gt 7, 3) := dk_163 0 7 (dk_at dksX0_isAhead_0 21 rfl rfl)
theorem dX0_isAhead_24 : decode cX0_isAhead 24 = .ok (.iconst 1, 1) := dk_4 (dk_at dksX0_isAhead_1 0 rfl rfl)
theorem dX0_isAhead_25 : decode cX0_isAhead 25 = .ok (.goto 4, 3) := dk_167 0 4 (dk_at dksX0_isAhead_1 1 rfl rfl)
theorem dX0_isAhead_28 : decode cX0_isAhead 28 = .ok (.iconst 0, 1) := dk_3 (dk_at dksX0_isAhead_1 4 rfl rfl)
theorem dX0_isAhead_29 : decode cX0_isAhead 29 = .ok (.ireturn, 1) := dk_172 (dk_at dksX0_isAhead_1 5 rfl rfl)
abbrev cX0_within : ByteArray := prog_1_method_23_code
def yX0_within : MethodName := ⟨RX0, "within", "(JI)I"⟩
def dkwX0_within_0 : List UInt8 := [9, 28, 133, 30, 184, 0, 7, 184, 0, 13, 136, 172]
abbrev dktX0_within_0 : List UInt8 := dkwX0_within_0 ++ []
theorem dksX0_within_0 : cX0_within.data.toList.drop 0 = dktX0_within_0 := by decide +kernel
theorem dX0_within_0 : decode cX0_within 0 = .ok (.lconst 0, 1) := dk_9 (dk_at dksX0_within_0 0 rfl rfl)
theorem dX0_within_1 : decode cX0_within 1 = .ok (.iload_n 2, 1) := dk_28 (dk_at dksX0_within_0 1 rfl rfl)
theorem dX0_within_2 : decode cX0_within 2 = .ok (.i2l, 1) := dk_133 (dk_at dksX0_within_0 2 rfl rfl)
theorem dX0_within_3 : decode cX0_within 3 = .ok (.lload_n 0, 1) := dk_30 (dk_at dksX0_within_0 3 rfl rfl)
theorem dX0_within_4 : decode cX0_within 4 = .ok (.invokestatic 7, 3) := dk_184 0 7 (dk_at dksX0_within_0 4 rfl rfl)
theorem dX0_within_7 : decode cX0_within 7 = .ok (.invokestatic 13, 3) := dk_184 0 13 (dk_at dksX0_within_0 7 rfl rfl)
theorem dX0_within_10 : decode cX0_within 10 = .ok (.l2i, 1) := dk_136 (dk_at dksX0_within_0 10 rfl rfl)
theorem dX0_within_11 : decode cX0_within 11 = .ok (.ireturn, 1) := dk_172 (dk_at dksX0_within_0 11 rfl rfl)
abbrev cX0_dies : ByteArray := prog_1_method_35_code
def yX0_dies : MethodName := ⟨RX0, "dies", "(I)I"⟩
def dkwX0_dies_2 : List UInt8 := [42, 180, 0, 78, 182, 1, 48, 87, 132, 2, 1, 167, 255, 221, 2, 172]
abbrev dktX0_dies_2 : List UInt8 := dkwX0_dies_2 ++ []
def dkwX0_dies_1 : List UInt8 := [42, 28, 3, 16, 60, 182, 1, 35, 153, 0, 30, 42, 180, 0, 78, 27, 182, 1, 45, 154, 0, 5, 28, 172]
abbrev dktX0_dies_1 : List UInt8 := dkwX0_dies_1 ++ dktX0_dies_2
def dkwX0_dies_0 : List UInt8 := [42, 27, 182, 0, 240, 154, 0, 5, 2, 172, 42, 180, 0, 78, 42, 180, 0, 74, 182, 1, 38, 87, 3, 61]
abbrev dktX0_dies_0 : List UInt8 := dkwX0_dies_0 ++ dktX0_dies_1
theorem dksX0_dies_0 : cX0_dies.data.toList.drop 0 = dktX0_dies_0 := by decide +kernel
theorem dksX0_dies_1 : cX0_dies.data.toList.drop 24 = dktX0_dies_1 := dk_seg dksX0_dies_0 24 rfl rfl
theorem dksX0_dies_2 : cX0_dies.data.toList.drop 48 = dktX0_dies_2 := dk_seg dksX0_dies_1 24 rfl rfl
theorem dX0_dies_0 : decode cX0_dies 0 = .ok (.aload_n 0, 1) := dk_42 (dk_at dksX0_dies_0 0 rfl rfl)
theorem dX0_dies_1 : decode cX0_dies 1 = .ok (.iload_n 1, 1) := dk_27 (dk_at dksX0_dies_0 1 rfl rfl)
theorem dX0_dies_2 : decode cX0_dies 2 = .ok (.invokevirtual 240, 3) := dk_182 0 240 (dk_at dksX0_dies_0 2 rfl rfl)
theorem dX0_dies_5 : decode cX0_dies 5 = .ok (.ifCond .ne 5, 3) := dk_154 0 5 (dk_at dksX0_dies_0 5 rfl rfl)
theorem dX0_dies_8 : decode cX0_dies 8 = .ok (.iconst (-1), 1) := dk_2 (dk_at dksX0_dies_0 8 rfl rfl)
theorem dX0_dies_9 : decode cX0_dies 9 = .ok (.ireturn, 1) := dk_172 (dk_at dksX0_dies_0 9 rfl rfl)
theorem dX0_dies_10 : decode cX0_dies 10 = .ok (.aload_n 0, 1) := dk_42 (dk_at dksX0_dies_0 10 rfl rfl)
theorem dX0_dies_11 : decode cX0_dies 11 = .ok (.getfield 78, 3) := dk_180 0 78 (dk_at dksX0_dies_0 11 rfl rfl)
theorem dX0_dies_14 : decode cX0_dies 14 = .ok (.aload_n 0, 1) := dk_42 (dk_at dksX0_dies_0 14 rfl rfl)
theorem dX0_dies_15 : decode cX0_dies 15 = .ok (.getfield 74, 3) := dk_180 0 74 (dk_at dksX0_dies_0 15 rfl rfl)
theorem dX0_dies_18 : decode cX0_dies 18 = .ok (.invokevirtual 294, 3) := dk_182 1 38 (dk_at dksX0_dies_0 18 rfl rfl)
theorem dX0_dies_21 : decode cX0_dies 21 = .ok (.pop, 1) := dk_87 (dk_at dksX0_dies_0 21 rfl rfl)
theorem dX0_dies_22 : decode cX0_dies 22 = .ok (.iconst 0, 1) := dk_3 (dk_at dksX0_dies_0 22 rfl rfl)
theorem dX0_dies_23 : decode cX0_dies 23 = .ok (.istore_n 2, 1) := dk_61 (dk_at dksX0_dies_0 23 rfl rfl)
theorem dX0_dies_24 : decode cX0_dies 24 = .ok (.aload_n 0, 1) := dk_42 (dk_at dksX0_dies_1 0 rfl rfl)
theorem dX0_dies_25 : decode cX0_dies 25 = .ok (.iload_n 2, 1) := dk_28 (dk_at dksX0_dies_1 1 rfl rfl)
theorem dX0_dies_26 : decode cX0_dies 26 = .ok (.iconst 0, 1) := dk_3 (dk_at dksX0_dies_1 2 rfl rfl)
theorem dX0_dies_27 : decode cX0_dies 27 = .ok (.bipush 60, 2) := dk_16 60 (dk_at dksX0_dies_1 3 rfl rfl)
theorem dX0_dies_29 : decode cX0_dies 29 = .ok (.invokevirtual 291, 3) := dk_182 1 35 (dk_at dksX0_dies_1 5 rfl rfl)
theorem dX0_dies_32 : decode cX0_dies 32 = .ok (.ifCond .eq 30, 3) := dk_153 0 30 (dk_at dksX0_dies_1 8 rfl rfl)
theorem dX0_dies_35 : decode cX0_dies 35 = .ok (.aload_n 0, 1) := dk_42 (dk_at dksX0_dies_1 11 rfl rfl)
theorem dX0_dies_36 : decode cX0_dies 36 = .ok (.getfield 78, 3) := dk_180 0 78 (dk_at dksX0_dies_1 12 rfl rfl)
theorem dX0_dies_39 : decode cX0_dies 39 = .ok (.iload_n 1, 1) := dk_27 (dk_at dksX0_dies_1 15 rfl rfl)
theorem dX0_dies_40 : decode cX0_dies 40 = .ok (.invokevirtual 301, 3) := dk_182 1 45 (dk_at dksX0_dies_1 16 rfl rfl)
theorem dX0_dies_43 : decode cX0_dies 43 = .ok (.ifCond .ne 5, 3) := dk_154 0 5 (dk_at dksX0_dies_1 19 rfl rfl)
theorem dX0_dies_46 : decode cX0_dies 46 = .ok (.iload_n 2, 1) := dk_28 (dk_at dksX0_dies_1 22 rfl rfl)
theorem dX0_dies_47 : decode cX0_dies 47 = .ok (.ireturn, 1) := dk_172 (dk_at dksX0_dies_1 23 rfl rfl)
theorem dX0_dies_48 : decode cX0_dies 48 = .ok (.aload_n 0, 1) := dk_42 (dk_at dksX0_dies_2 0 rfl rfl)
theorem dX0_dies_49 : decode cX0_dies 49 = .ok (.getfield 78, 3) := dk_180 0 78 (dk_at dksX0_dies_2 1 rfl rfl)
theorem dX0_dies_52 : decode cX0_dies 52 = .ok (.invokevirtual 304, 3) := dk_182 1 48 (dk_at dksX0_dies_2 4 rfl rfl)
theorem dX0_dies_55 : decode cX0_dies 55 = .ok (.pop, 1) := dk_87 (dk_at dksX0_dies_2 7 rfl rfl)
theorem dX0_dies_56 : decode cX0_dies 56 = .ok (.iinc 2 1, 3) := dk_132 2 1 (dk_at dksX0_dies_2 8 rfl rfl)
theorem dX0_dies_59 : decode cX0_dies 59 = .ok (.goto (-35), 3) := dk_167 255 221 (dk_at dksX0_dies_2 11 rfl rfl)
theorem dX0_dies_62 : decode cX0_dies 62 = .ok (.iconst (-1), 1) := dk_2 (dk_at dksX0_dies_2 14 rfl rfl)
theorem dX0_dies_63 : decode cX0_dies 63 = .ok (.ireturn, 1) := dk_172 (dk_at dksX0_dies_2 15 rfl rfl)
abbrev cX0_round : ByteArray := prog_1_method_40_code
def yX0_round : MethodName := ⟨RX0, "round", "(II)I"⟩
def dkwX0_round_4 : List UInt8 := [42, 180, 0, 87, 28, 46, 172]
abbrev dktX0_round_4 : List UInt8 := dkwX0_round_4 ++ []
def dkwX0_round_3 : List UInt8 := [180, 1, 60, 18, 193, 160, 0, 7, 2, 167, 0, 21, 28, 2, 160, 0, 10, 42, 180, 1, 60, 167, 0, 9]
abbrev dktX0_round_3 : List UInt8 := dkwX0_round_3 ++ dktX0_round_4
def dkwX0_round_2 : List UInt8 := [184, 0, 231, 154, 0, 5, 2, 172, 42, 18, 193, 181, 1, 60, 42, 27, 3, 29, 182, 1, 66, 42]
abbrev dktX0_round_2 : List UInt8 := dkwX0_round_2 ++ dktX0_round_3
def dkwX0_round_1 : List UInt8 := [126, 154, 0, 11, 27, 184, 0, 220, 7, 164, 0, 5, 2, 172, 27, 184, 0, 220, 62, 28, 2, 29, 4, 100]
abbrev dktX0_round_1 : List UInt8 := dkwX0_round_1 ++ dktX0_round_2
def dkwX0_round_0 : List UInt8 := [27, 158, 0, 35, 27, 4, 42, 182, 0, 181, 120, 162, 0, 25, 27, 42, 180, 0, 74, 182, 0, 217, 2, 130]
abbrev dktX0_round_0 : List UInt8 := dkwX0_round_0 ++ dktX0_round_1
theorem dksX0_round_0 : cX0_round.data.toList.drop 0 = dktX0_round_0 := by decide +kernel
theorem dksX0_round_1 : cX0_round.data.toList.drop 24 = dktX0_round_1 := dk_seg dksX0_round_0 24 rfl rfl
theorem dksX0_round_2 : cX0_round.data.toList.drop 48 = dktX0_round_2 := dk_seg dksX0_round_1 24 rfl rfl
theorem dksX0_round_3 : cX0_round.data.toList.drop 70 = dktX0_round_3 := dk_seg dksX0_round_2 22 rfl rfl
theorem dksX0_round_4 : cX0_round.data.toList.drop 94 = dktX0_round_4 := dk_seg dksX0_round_3 24 rfl rfl
theorem dX0_round_0 : decode cX0_round 0 = .ok (.iload_n 1, 1) := dk_27 (dk_at dksX0_round_0 0 rfl rfl)
theorem dX0_round_1 : decode cX0_round 1 = .ok (.ifCond .le 35, 3) := dk_158 0 35 (dk_at dksX0_round_0 1 rfl rfl)
theorem dX0_round_4 : decode cX0_round 4 = .ok (.iload_n 1, 1) := dk_27 (dk_at dksX0_round_0 4 rfl rfl)
theorem dX0_round_5 : decode cX0_round 5 = .ok (.iconst 1, 1) := dk_4 (dk_at dksX0_round_0 5 rfl rfl)
theorem dX0_round_6 : decode cX0_round 6 = .ok (.aload_n 0, 1) := dk_42 (dk_at dksX0_round_0 6 rfl rfl)
theorem dX0_round_7 : decode cX0_round 7 = .ok (.invokevirtual 181, 3) := dk_182 0 181 (dk_at dksX0_round_0 7 rfl rfl)
theorem dX0_round_10 : decode cX0_round 10 = .ok (.ishl, 1) := dk_120 (dk_at dksX0_round_0 10 rfl rfl)
theorem dX0_round_11 : decode cX0_round 11 = .ok (.if_icmp .ge 25, 3) := dk_162 0 25 (dk_at dksX0_round_0 11 rfl rfl)
theorem dX0_round_14 : decode cX0_round 14 = .ok (.iload_n 1, 1) := dk_27 (dk_at dksX0_round_0 14 rfl rfl)
theorem dX0_round_15 : decode cX0_round 15 = .ok (.aload_n 0, 1) := dk_42 (dk_at dksX0_round_0 15 rfl rfl)
theorem dX0_round_16 : decode cX0_round 16 = .ok (.getfield 74, 3) := dk_180 0 74 (dk_at dksX0_round_0 16 rfl rfl)
theorem dX0_round_19 : decode cX0_round 19 = .ok (.invokevirtual 217, 3) := dk_182 0 217 (dk_at dksX0_round_0 19 rfl rfl)
theorem dX0_round_22 : decode cX0_round 22 = .ok (.iconst (-1), 1) := dk_2 (dk_at dksX0_round_0 22 rfl rfl)
theorem dX0_round_23 : decode cX0_round 23 = .ok (.ixor, 1) := dk_130 (dk_at dksX0_round_0 23 rfl rfl)
theorem dX0_round_24 : decode cX0_round 24 = .ok (.iand, 1) := dk_126 (dk_at dksX0_round_1 0 rfl rfl)
theorem dX0_round_25 : decode cX0_round 25 = .ok (.ifCond .ne 11, 3) := dk_154 0 11 (dk_at dksX0_round_1 1 rfl rfl)
theorem dX0_round_28 : decode cX0_round 28 = .ok (.iload_n 1, 1) := dk_27 (dk_at dksX0_round_1 4 rfl rfl)
theorem dX0_round_29 : decode cX0_round 29 = .ok (.invokestatic 220, 3) := dk_184 0 220 (dk_at dksX0_round_1 5 rfl rfl)
theorem dX0_round_32 : decode cX0_round 32 = .ok (.iconst 4, 1) := dk_7 (dk_at dksX0_round_1 8 rfl rfl)
theorem dX0_round_33 : decode cX0_round 33 = .ok (.if_icmp .le 5, 3) := dk_164 0 5 (dk_at dksX0_round_1 9 rfl rfl)
theorem dX0_round_36 : decode cX0_round 36 = .ok (.iconst (-1), 1) := dk_2 (dk_at dksX0_round_1 12 rfl rfl)
theorem dX0_round_37 : decode cX0_round 37 = .ok (.ireturn, 1) := dk_172 (dk_at dksX0_round_1 13 rfl rfl)
theorem dX0_round_38 : decode cX0_round 38 = .ok (.iload_n 1, 1) := dk_27 (dk_at dksX0_round_1 14 rfl rfl)
theorem dX0_round_39 : decode cX0_round 39 = .ok (.invokestatic 220, 3) := dk_184 0 220 (dk_at dksX0_round_1 15 rfl rfl)
theorem dX0_round_42 : decode cX0_round 42 = .ok (.istore_n 3, 1) := dk_62 (dk_at dksX0_round_1 18 rfl rfl)
theorem dX0_round_43 : decode cX0_round 43 = .ok (.iload_n 2, 1) := dk_28 (dk_at dksX0_round_1 19 rfl rfl)
theorem dX0_round_44 : decode cX0_round 44 = .ok (.iconst (-1), 1) := dk_2 (dk_at dksX0_round_1 20 rfl rfl)
theorem dX0_round_45 : decode cX0_round 45 = .ok (.iload_n 3, 1) := dk_29 (dk_at dksX0_round_1 21 rfl rfl)
theorem dX0_round_46 : decode cX0_round 46 = .ok (.iconst 1, 1) := dk_4 (dk_at dksX0_round_1 22 rfl rfl)
theorem dX0_round_47 : decode cX0_round 47 = .ok (.isub, 1) := dk_100 (dk_at dksX0_round_1 23 rfl rfl)
theorem dX0_round_48 : decode cX0_round 48 = .ok (.invokestatic 231, 3) := dk_184 0 231 (dk_at dksX0_round_2 0 rfl rfl)
theorem dX0_round_51 : decode cX0_round 51 = .ok (.ifCond .ne 5, 3) := dk_154 0 5 (dk_at dksX0_round_2 3 rfl rfl)
theorem dX0_round_54 : decode cX0_round 54 = .ok (.iconst (-1), 1) := dk_2 (dk_at dksX0_round_2 6 rfl rfl)
theorem dX0_round_55 : decode cX0_round 55 = .ok (.ireturn, 1) := dk_172 (dk_at dksX0_round_2 7 rfl rfl)
theorem dX0_round_56 : decode cX0_round 56 = .ok (.aload_n 0, 1) := dk_42 (dk_at dksX0_round_2 8 rfl rfl)
theorem dX0_round_57 : decode cX0_round 57 = .ok (.ldc 193, 2) := dk_18 193 (dk_at dksX0_round_2 9 rfl rfl)
theorem dX0_round_59 : decode cX0_round 59 = .ok (.putfield 316, 3) := dk_181 1 60 (dk_at dksX0_round_2 11 rfl rfl)
theorem dX0_round_62 : decode cX0_round 62 = .ok (.aload_n 0, 1) := dk_42 (dk_at dksX0_round_2 14 rfl rfl)
theorem dX0_round_63 : decode cX0_round 63 = .ok (.iload_n 1, 1) := dk_27 (dk_at dksX0_round_2 15 rfl rfl)
theorem dX0_round_64 : decode cX0_round 64 = .ok (.iconst 0, 1) := dk_3 (dk_at dksX0_round_2 16 rfl rfl)
theorem dX0_round_65 : decode cX0_round 65 = .ok (.iload_n 3, 1) := dk_29 (dk_at dksX0_round_2 17 rfl rfl)
theorem dX0_round_66 : decode cX0_round 66 = .ok (.invokevirtual 322, 3) := dk_182 1 66 (dk_at dksX0_round_2 18 rfl rfl)
theorem dX0_round_69 : decode cX0_round 69 = .ok (.aload_n 0, 1) := dk_42 (dk_at dksX0_round_2 21 rfl rfl)
theorem dX0_round_70 : decode cX0_round 70 = .ok (.getfield 316, 3) := dk_180 1 60 (dk_at dksX0_round_3 0 rfl rfl)
theorem dX0_round_73 : decode cX0_round 73 = .ok (.ldc 193, 2) := dk_18 193 (dk_at dksX0_round_3 3 rfl rfl)
theorem dX0_round_75 : decode cX0_round 75 = .ok (.if_icmp .ne 7, 3) := dk_160 0 7 (dk_at dksX0_round_3 5 rfl rfl)
theorem dX0_round_78 : decode cX0_round 78 = .ok (.iconst (-1), 1) := dk_2 (dk_at dksX0_round_3 8 rfl rfl)
theorem dX0_round_79 : decode cX0_round 79 = .ok (.goto 21, 3) := dk_167 0 21 (dk_at dksX0_round_3 9 rfl rfl)
theorem dX0_round_82 : decode cX0_round 82 = .ok (.iload_n 2, 1) := dk_28 (dk_at dksX0_round_3 12 rfl rfl)
theorem dX0_round_83 : decode cX0_round 83 = .ok (.iconst (-1), 1) := dk_2 (dk_at dksX0_round_3 13 rfl rfl)
theorem dX0_round_84 : decode cX0_round 84 = .ok (.if_icmp .ne 10, 3) := dk_160 0 10 (dk_at dksX0_round_3 14 rfl rfl)
theorem dX0_round_87 : decode cX0_round 87 = .ok (.aload_n 0, 1) := dk_42 (dk_at dksX0_round_3 17 rfl rfl)
theorem dX0_round_88 : decode cX0_round 88 = .ok (.getfield 316, 3) := dk_180 1 60 (dk_at dksX0_round_3 18 rfl rfl)
theorem dX0_round_91 : decode cX0_round 91 = .ok (.goto 9, 3) := dk_167 0 9 (dk_at dksX0_round_3 21 rfl rfl)
theorem dX0_round_94 : decode cX0_round 94 = .ok (.aload_n 0, 1) := dk_42 (dk_at dksX0_round_4 0 rfl rfl)
theorem dX0_round_95 : decode cX0_round 95 = .ok (.getfield 87, 3) := dk_180 0 87 (dk_at dksX0_round_4 1 rfl rfl)
theorem dX0_round_98 : decode cX0_round 98 = .ok (.iload_n 2, 1) := dk_28 (dk_at dksX0_round_4 4 rfl rfl)
theorem dX0_round_99 : decode cX0_round 99 = .ok (.iaload, 1) := dk_46 (dk_at dksX0_round_4 5 rfl rfl)
theorem dX0_round_100 : decode cX0_round 100 = .ok (.ireturn, 1) := dk_172 (dk_at dksX0_round_4 6 rfl rfl)
abbrev cX0_orders : ByteArray := prog_1_method_39_code
def yX0_orders : MethodName := ⟨RX0, "orders", "(III)V"⟩
def dkwX0_orders_2 : List UInt8 := [120, 2, 130, 126, 28, 4, 96, 29, 182, 1, 66, 132, 4, 1, 167, 255, 208, 177]
abbrev dktX0_orders_2 : List UInt8 := dkwX0_orders_2 ++ []
def dkwX0_orders_1 : List UInt8 := [21, 4, 184, 1, 20, 154, 0, 6, 167, 0, 27, 42, 180, 0, 84, 28, 21, 4, 79, 42, 27, 4, 21, 4]
abbrev dktX0_orders_1 : List UInt8 := dkwX0_orders_1 ++ dktX0_orders_2
def dkwX0_orders_0 : List UInt8 := [28, 29, 160, 0, 9, 42, 29, 182, 1, 63, 177, 3, 54, 4, 21, 4, 42, 182, 0, 181, 162, 0, 45, 27]
abbrev dktX0_orders_0 : List UInt8 := dkwX0_orders_0 ++ dktX0_orders_1
theorem dksX0_orders_0 : cX0_orders.data.toList.drop 0 = dktX0_orders_0 := by decide +kernel
theorem dksX0_orders_1 : cX0_orders.data.toList.drop 24 = dktX0_orders_1 := dk_seg dksX0_orders_0 24 rfl rfl
theorem dksX0_orders_2 : cX0_orders.data.toList.drop 48 = dktX0_orders_2 := dk_seg dksX0_orders_1 24 rfl rfl
theorem dX0_orders_0 : decode cX0_orders 0 = .ok (.iload_n 2, 1) := dk_28 (dk_at dksX0_orders_0 0 rfl rfl)
theorem dX0_orders_1 : decode cX0_orders 1 = .ok (.iload_n 3, 1) := dk_29 (dk_at dksX0_orders_0 1 rfl rfl)
theorem dX0_orders_2 : decode cX0_orders 2 = .ok (.if_icmp .ne 9, 3) := dk_160 0 9 (dk_at dksX0_orders_0 2 rfl rfl)
theorem dX0_orders_5 : decode cX0_orders 5 = .ok (.aload_n 0, 1) := dk_42 (dk_at dksX0_orders_0 5 rfl rfl)
theorem dX0_orders_6 : decode cX0_orders 6 = .ok (.iload_n 3, 1) := dk_29 (dk_at dksX0_orders_0 6 rfl rfl)
theorem dX0_orders_7 : decode cX0_orders 7 = .ok (.invokevirtual 319, 3) := dk_182 1 63 (dk_at dksX0_orders_0 7 rfl rfl)
theorem dX0_orders_10 : decode cX0_orders 10 = .ok (.return_, 1) := dk_177 (dk_at dksX0_orders_0 10 rfl rfl)
theorem dX0_orders_11 : decode cX0_orders 11 = .ok (.iconst 0, 1) := dk_3 (dk_at dksX0_orders_0 11 rfl rfl)
theorem dX0_orders_12 : decode cX0_orders 12 = .ok (.istore 4, 2) := dk_54 4 (dk_at dksX0_orders_0 12 rfl rfl)
theorem dX0_orders_14 : decode cX0_orders 14 = .ok (.iload 4, 2) := dk_21 4 (dk_at dksX0_orders_0 14 rfl rfl)
theorem dX0_orders_16 : decode cX0_orders 16 = .ok (.aload_n 0, 1) := dk_42 (dk_at dksX0_orders_0 16 rfl rfl)
theorem dX0_orders_17 : decode cX0_orders 17 = .ok (.invokevirtual 181, 3) := dk_182 0 181 (dk_at dksX0_orders_0 17 rfl rfl)
theorem dX0_orders_20 : decode cX0_orders 20 = .ok (.if_icmp .ge 45, 3) := dk_162 0 45 (dk_at dksX0_orders_0 20 rfl rfl)
theorem dX0_orders_23 : decode cX0_orders 23 = .ok (.iload_n 1, 1) := dk_27 (dk_at dksX0_orders_0 23 rfl rfl)
theorem dX0_orders_24 : decode cX0_orders 24 = .ok (.iload 4, 2) := dk_21 4 (dk_at dksX0_orders_1 0 rfl rfl)
theorem dX0_orders_26 : decode cX0_orders 26 = .ok (.invokestatic 276, 3) := dk_184 1 20 (dk_at dksX0_orders_1 2 rfl rfl)
theorem dX0_orders_29 : decode cX0_orders 29 = .ok (.ifCond .ne 6, 3) := dk_154 0 6 (dk_at dksX0_orders_1 5 rfl rfl)
theorem dX0_orders_32 : decode cX0_orders 32 = .ok (.goto 27, 3) := dk_167 0 27 (dk_at dksX0_orders_1 8 rfl rfl)
theorem dX0_orders_35 : decode cX0_orders 35 = .ok (.aload_n 0, 1) := dk_42 (dk_at dksX0_orders_1 11 rfl rfl)
theorem dX0_orders_36 : decode cX0_orders 36 = .ok (.getfield 84, 3) := dk_180 0 84 (dk_at dksX0_orders_1 12 rfl rfl)
theorem dX0_orders_39 : decode cX0_orders 39 = .ok (.iload_n 2, 1) := dk_28 (dk_at dksX0_orders_1 15 rfl rfl)
theorem dX0_orders_40 : decode cX0_orders 40 = .ok (.iload 4, 2) := dk_21 4 (dk_at dksX0_orders_1 16 rfl rfl)
theorem dX0_orders_42 : decode cX0_orders 42 = .ok (.iastore, 1) := dk_79 (dk_at dksX0_orders_1 18 rfl rfl)
theorem dX0_orders_43 : decode cX0_orders 43 = .ok (.aload_n 0, 1) := dk_42 (dk_at dksX0_orders_1 19 rfl rfl)
theorem dX0_orders_44 : decode cX0_orders 44 = .ok (.iload_n 1, 1) := dk_27 (dk_at dksX0_orders_1 20 rfl rfl)
theorem dX0_orders_45 : decode cX0_orders 45 = .ok (.iconst 1, 1) := dk_4 (dk_at dksX0_orders_1 21 rfl rfl)
theorem dX0_orders_46 : decode cX0_orders 46 = .ok (.iload 4, 2) := dk_21 4 (dk_at dksX0_orders_1 22 rfl rfl)
theorem dX0_orders_48 : decode cX0_orders 48 = .ok (.ishl, 1) := dk_120 (dk_at dksX0_orders_2 0 rfl rfl)
theorem dX0_orders_49 : decode cX0_orders 49 = .ok (.iconst (-1), 1) := dk_2 (dk_at dksX0_orders_2 1 rfl rfl)
theorem dX0_orders_50 : decode cX0_orders 50 = .ok (.ixor, 1) := dk_130 (dk_at dksX0_orders_2 2 rfl rfl)
theorem dX0_orders_51 : decode cX0_orders 51 = .ok (.iand, 1) := dk_126 (dk_at dksX0_orders_2 3 rfl rfl)
theorem dX0_orders_52 : decode cX0_orders 52 = .ok (.iload_n 2, 1) := dk_28 (dk_at dksX0_orders_2 4 rfl rfl)
theorem dX0_orders_53 : decode cX0_orders 53 = .ok (.iconst 1, 1) := dk_4 (dk_at dksX0_orders_2 5 rfl rfl)
theorem dX0_orders_54 : decode cX0_orders 54 = .ok (.iadd, 1) := dk_96 (dk_at dksX0_orders_2 6 rfl rfl)
theorem dX0_orders_55 : decode cX0_orders 55 = .ok (.iload_n 3, 1) := dk_29 (dk_at dksX0_orders_2 7 rfl rfl)
theorem dX0_orders_56 : decode cX0_orders 56 = .ok (.invokevirtual 322, 3) := dk_182 1 66 (dk_at dksX0_orders_2 8 rfl rfl)
theorem dX0_orders_59 : decode cX0_orders 59 = .ok (.iinc 4 1, 3) := dk_132 4 1 (dk_at dksX0_orders_2 11 rfl rfl)
theorem dX0_orders_62 : decode cX0_orders 62 = .ok (.goto (-48), 3) := dk_167 255 208 (dk_at dksX0_orders_2 14 rfl rfl)
theorem dX0_orders_65 : decode cX0_orders 65 = .ok (.return_, 1) := dk_177 (dk_at dksX0_orders_2 17 rfl rfl)
abbrev cX0_tries : ByteArray := prog_1_method_38_code
def yX0_tries : MethodName := ⟨RX0, "tries", "(I)V"⟩
def dkwX0_tries_4 : List UInt8 := [180, 0, 84, 28, 46, 79, 132, 2, 1, 167, 255, 236, 177]
abbrev dktX0_tries_4 : List UInt8 := dkwX0_tries_4 ++ []
def dkwX0_tries_3 : List UInt8 := [180, 0, 74, 180, 0, 211, 100, 181, 1, 60, 3, 61, 28, 27, 162, 0, 21, 42, 180, 0, 87, 28, 42]
abbrev dktX0_tries_3 : List UInt8 := dkwX0_tries_3 ++ dktX0_tries_4
def dkwX0_tries_2 : List UInt8 := [180, 0, 74, 180, 0, 211, 100, 42, 180, 1, 60, 161, 0, 4, 177, 42, 42, 180, 0, 78, 180, 0, 211, 42]
abbrev dktX0_tries_2 : List UInt8 := dkwX0_tries_2 ++ dktX0_tries_3
def dkwX0_tries_1 : List UInt8 := [28, 46, 182, 1, 57, 154, 0, 4, 177, 132, 2, 1, 167, 255, 234, 42, 180, 0, 78, 180, 0, 211, 42]
abbrev dktX0_tries_1 : List UInt8 := dkwX0_tries_1 ++ dktX0_tries_2
def dkwX0_tries_0 : List UInt8 := [42, 180, 0, 78, 42, 180, 0, 74, 182, 1, 38, 87, 3, 61, 28, 27, 162, 0, 23, 42, 42, 180, 0, 84]
abbrev dktX0_tries_0 : List UInt8 := dkwX0_tries_0 ++ dktX0_tries_1
theorem dksX0_tries_0 : cX0_tries.data.toList.drop 0 = dktX0_tries_0 := by decide +kernel
theorem dksX0_tries_1 : cX0_tries.data.toList.drop 24 = dktX0_tries_1 := dk_seg dksX0_tries_0 24 rfl rfl
theorem dksX0_tries_2 : cX0_tries.data.toList.drop 47 = dktX0_tries_2 := dk_seg dksX0_tries_1 23 rfl rfl
theorem dksX0_tries_3 : cX0_tries.data.toList.drop 71 = dktX0_tries_3 := dk_seg dksX0_tries_2 24 rfl rfl
theorem dksX0_tries_4 : cX0_tries.data.toList.drop 94 = dktX0_tries_4 := dk_seg dksX0_tries_3 23 rfl rfl
theorem dX0_tries_0 : decode cX0_tries 0 = .ok (.aload_n 0, 1) := dk_42 (dk_at dksX0_tries_0 0 rfl rfl)
theorem dX0_tries_1 : decode cX0_tries 1 = .ok (.getfield 78, 3) := dk_180 0 78 (dk_at dksX0_tries_0 1 rfl rfl)
theorem dX0_tries_4 : decode cX0_tries 4 = .ok (.aload_n 0, 1) := dk_42 (dk_at dksX0_tries_0 4 rfl rfl)
theorem dX0_tries_5 : decode cX0_tries 5 = .ok (.getfield 74, 3) := dk_180 0 74 (dk_at dksX0_tries_0 5 rfl rfl)
theorem dX0_tries_8 : decode cX0_tries 8 = .ok (.invokevirtual 294, 3) := dk_182 1 38 (dk_at dksX0_tries_0 8 rfl rfl)
theorem dX0_tries_11 : decode cX0_tries 11 = .ok (.pop, 1) := dk_87 (dk_at dksX0_tries_0 11 rfl rfl)
theorem dX0_tries_12 : decode cX0_tries 12 = .ok (.iconst 0, 1) := dk_3 (dk_at dksX0_tries_0 12 rfl rfl)
theorem dX0_tries_13 : decode cX0_tries 13 = .ok (.istore_n 2, 1) := dk_61 (dk_at dksX0_tries_0 13 rfl rfl)
theorem dX0_tries_14 : decode cX0_tries 14 = .ok (.iload_n 2, 1) := dk_28 (dk_at dksX0_tries_0 14 rfl rfl)
theorem dX0_tries_15 : decode cX0_tries 15 = .ok (.iload_n 1, 1) := dk_27 (dk_at dksX0_tries_0 15 rfl rfl)
theorem dX0_tries_16 : decode cX0_tries 16 = .ok (.if_icmp .ge 23, 3) := dk_162 0 23 (dk_at dksX0_tries_0 16 rfl rfl)
theorem dX0_tries_19 : decode cX0_tries 19 = .ok (.aload_n 0, 1) := dk_42 (dk_at dksX0_tries_0 19 rfl rfl)
theorem dX0_tries_20 : decode cX0_tries 20 = .ok (.aload_n 0, 1) := dk_42 (dk_at dksX0_tries_0 20 rfl rfl)
theorem dX0_tries_21 : decode cX0_tries 21 = .ok (.getfield 84, 3) := dk_180 0 84 (dk_at dksX0_tries_0 21 rfl rfl)
theorem dX0_tries_24 : decode cX0_tries 24 = .ok (.iload_n 2, 1) := dk_28 (dk_at dksX0_tries_1 0 rfl rfl)
theorem dX0_tries_25 : decode cX0_tries 25 = .ok (.iaload, 1) := dk_46 (dk_at dksX0_tries_1 1 rfl rfl)
theorem dX0_tries_26 : decode cX0_tries 26 = .ok (.invokevirtual 313, 3) := dk_182 1 57 (dk_at dksX0_tries_1 2 rfl rfl)
theorem dX0_tries_29 : decode cX0_tries 29 = .ok (.ifCond .ne 4, 3) := dk_154 0 4 (dk_at dksX0_tries_1 5 rfl rfl)
theorem dX0_tries_32 : decode cX0_tries 32 = .ok (.return_, 1) := dk_177 (dk_at dksX0_tries_1 8 rfl rfl)
theorem dX0_tries_33 : decode cX0_tries 33 = .ok (.iinc 2 1, 3) := dk_132 2 1 (dk_at dksX0_tries_1 9 rfl rfl)
theorem dX0_tries_36 : decode cX0_tries 36 = .ok (.goto (-22), 3) := dk_167 255 234 (dk_at dksX0_tries_1 12 rfl rfl)
theorem dX0_tries_39 : decode cX0_tries 39 = .ok (.aload_n 0, 1) := dk_42 (dk_at dksX0_tries_1 15 rfl rfl)
theorem dX0_tries_40 : decode cX0_tries 40 = .ok (.getfield 78, 3) := dk_180 0 78 (dk_at dksX0_tries_1 16 rfl rfl)
theorem dX0_tries_43 : decode cX0_tries 43 = .ok (.getfield 211, 3) := dk_180 0 211 (dk_at dksX0_tries_1 19 rfl rfl)
theorem dX0_tries_46 : decode cX0_tries 46 = .ok (.aload_n 0, 1) := dk_42 (dk_at dksX0_tries_1 22 rfl rfl)
theorem dX0_tries_47 : decode cX0_tries 47 = .ok (.getfield 74, 3) := dk_180 0 74 (dk_at dksX0_tries_2 0 rfl rfl)
theorem dX0_tries_50 : decode cX0_tries 50 = .ok (.getfield 211, 3) := dk_180 0 211 (dk_at dksX0_tries_2 3 rfl rfl)
theorem dX0_tries_53 : decode cX0_tries 53 = .ok (.isub, 1) := dk_100 (dk_at dksX0_tries_2 6 rfl rfl)
theorem dX0_tries_54 : decode cX0_tries 54 = .ok (.aload_n 0, 1) := dk_42 (dk_at dksX0_tries_2 7 rfl rfl)
theorem dX0_tries_55 : decode cX0_tries 55 = .ok (.getfield 316, 3) := dk_180 1 60 (dk_at dksX0_tries_2 8 rfl rfl)
theorem dX0_tries_58 : decode cX0_tries 58 = .ok (.if_icmp .lt 4, 3) := dk_161 0 4 (dk_at dksX0_tries_2 11 rfl rfl)
theorem dX0_tries_61 : decode cX0_tries 61 = .ok (.return_, 1) := dk_177 (dk_at dksX0_tries_2 14 rfl rfl)
theorem dX0_tries_62 : decode cX0_tries 62 = .ok (.aload_n 0, 1) := dk_42 (dk_at dksX0_tries_2 15 rfl rfl)
theorem dX0_tries_63 : decode cX0_tries 63 = .ok (.aload_n 0, 1) := dk_42 (dk_at dksX0_tries_2 16 rfl rfl)
theorem dX0_tries_64 : decode cX0_tries 64 = .ok (.getfield 78, 3) := dk_180 0 78 (dk_at dksX0_tries_2 17 rfl rfl)
theorem dX0_tries_67 : decode cX0_tries 67 = .ok (.getfield 211, 3) := dk_180 0 211 (dk_at dksX0_tries_2 20 rfl rfl)
theorem dX0_tries_70 : decode cX0_tries 70 = .ok (.aload_n 0, 1) := dk_42 (dk_at dksX0_tries_2 23 rfl rfl)
theorem dX0_tries_71 : decode cX0_tries 71 = .ok (.getfield 74, 3) := dk_180 0 74 (dk_at dksX0_tries_3 0 rfl rfl)
theorem dX0_tries_74 : decode cX0_tries 74 = .ok (.getfield 211, 3) := dk_180 0 211 (dk_at dksX0_tries_3 3 rfl rfl)
theorem dX0_tries_77 : decode cX0_tries 77 = .ok (.isub, 1) := dk_100 (dk_at dksX0_tries_3 6 rfl rfl)
theorem dX0_tries_78 : decode cX0_tries 78 = .ok (.putfield 316, 3) := dk_181 1 60 (dk_at dksX0_tries_3 7 rfl rfl)
theorem dX0_tries_81 : decode cX0_tries 81 = .ok (.iconst 0, 1) := dk_3 (dk_at dksX0_tries_3 10 rfl rfl)
theorem dX0_tries_82 : decode cX0_tries 82 = .ok (.istore_n 2, 1) := dk_61 (dk_at dksX0_tries_3 11 rfl rfl)
theorem dX0_tries_83 : decode cX0_tries 83 = .ok (.iload_n 2, 1) := dk_28 (dk_at dksX0_tries_3 12 rfl rfl)
theorem dX0_tries_84 : decode cX0_tries 84 = .ok (.iload_n 1, 1) := dk_27 (dk_at dksX0_tries_3 13 rfl rfl)
theorem dX0_tries_85 : decode cX0_tries 85 = .ok (.if_icmp .ge 21, 3) := dk_162 0 21 (dk_at dksX0_tries_3 14 rfl rfl)
theorem dX0_tries_88 : decode cX0_tries 88 = .ok (.aload_n 0, 1) := dk_42 (dk_at dksX0_tries_3 17 rfl rfl)
theorem dX0_tries_89 : decode cX0_tries 89 = .ok (.getfield 87, 3) := dk_180 0 87 (dk_at dksX0_tries_3 18 rfl rfl)
theorem dX0_tries_92 : decode cX0_tries 92 = .ok (.iload_n 2, 1) := dk_28 (dk_at dksX0_tries_3 21 rfl rfl)
theorem dX0_tries_93 : decode cX0_tries 93 = .ok (.aload_n 0, 1) := dk_42 (dk_at dksX0_tries_3 22 rfl rfl)
theorem dX0_tries_94 : decode cX0_tries 94 = .ok (.getfield 84, 3) := dk_180 0 84 (dk_at dksX0_tries_4 0 rfl rfl)
theorem dX0_tries_97 : decode cX0_tries 97 = .ok (.iload_n 2, 1) := dk_28 (dk_at dksX0_tries_4 3 rfl rfl)
theorem dX0_tries_98 : decode cX0_tries 98 = .ok (.iaload, 1) := dk_46 (dk_at dksX0_tries_4 4 rfl rfl)
theorem dX0_tries_99 : decode cX0_tries 99 = .ok (.iastore, 1) := dk_79 (dk_at dksX0_tries_4 5 rfl rfl)
theorem dX0_tries_100 : decode cX0_tries 100 = .ok (.iinc 2 1, 3) := dk_132 2 1 (dk_at dksX0_tries_4 6 rfl rfl)
theorem dX0_tries_103 : decode cX0_tries 103 = .ok (.goto (-20), 3) := dk_167 255 236 (dk_at dksX0_tries_4 9 rfl rfl)
theorem dX0_tries_106 : decode cX0_tries 106 = .ok (.return_, 1) := dk_177 (dk_at dksX0_tries_4 12 rfl rfl)
abbrev cX0_reaches : ByteArray := prog_1_method_37_code
def yX0_reaches : MethodName := ⟨RX0, "reaches", "(I)Z"⟩
def dkwX0_reaches_5 : List UInt8 := [182, 1, 54, 87, 4, 172]
abbrev dktX0_reaches_5 : List UInt8 := dkwX0_reaches_5 ++ []
def dkwX0_reaches_4 : List UInt8 := [132, 3, 1, 167, 255, 226, 42, 180, 0, 78, 27, 182, 1, 45, 153, 0, 12, 42, 180, 0, 78, 27]
abbrev dktX0_reaches_4 : List UInt8 := dkwX0_reaches_4 ++ dktX0_reaches_5
def dkwX0_reaches_3 : List UInt8 := [182, 1, 4, 153, 0, 25, 29, 16, 20, 159, 0, 11, 42, 4, 182, 1, 51, 154, 0, 5, 3, 172]
abbrev dktX0_reaches_3 : List UInt8 := dkwX0_reaches_3 ++ dktX0_reaches_4
def dkwX0_reaches_2 : List UInt8 := [172, 42, 180, 0, 78, 42, 27, 182, 0, 244, 180, 0, 248, 181, 0, 214, 3, 62, 42, 180, 0, 78, 27]
abbrev dktX0_reaches_2 : List UInt8 := dkwX0_reaches_2 ++ dktX0_reaches_3
def dkwX0_reaches_1 : List UInt8 := [182, 0, 244, 180, 0, 248, 182, 1, 30, 61, 28, 2, 159, 0, 11, 42, 28, 182, 1, 51, 154, 0, 5, 3]
abbrev dktX0_reaches_1 : List UInt8 := dkwX0_reaches_1 ++ dktX0_reaches_2
def dkwX0_reaches_0 : List UInt8 := [42, 180, 0, 78, 27, 182, 1, 45, 154, 0, 5, 4, 172, 42, 42, 180, 0, 78, 180, 0, 214, 42, 27]
abbrev dktX0_reaches_0 : List UInt8 := dkwX0_reaches_0 ++ dktX0_reaches_1
theorem dksX0_reaches_0 : cX0_reaches.data.toList.drop 0 = dktX0_reaches_0 := by decide +kernel
theorem dksX0_reaches_1 : cX0_reaches.data.toList.drop 23 = dktX0_reaches_1 := dk_seg dksX0_reaches_0 23 rfl rfl
theorem dksX0_reaches_2 : cX0_reaches.data.toList.drop 47 = dktX0_reaches_2 := dk_seg dksX0_reaches_1 24 rfl rfl
theorem dksX0_reaches_3 : cX0_reaches.data.toList.drop 70 = dktX0_reaches_3 := dk_seg dksX0_reaches_2 23 rfl rfl
theorem dksX0_reaches_4 : cX0_reaches.data.toList.drop 92 = dktX0_reaches_4 := dk_seg dksX0_reaches_3 22 rfl rfl
theorem dksX0_reaches_5 : cX0_reaches.data.toList.drop 114 = dktX0_reaches_5 := dk_seg dksX0_reaches_4 22 rfl rfl
theorem dX0_reaches_0 : decode cX0_reaches 0 = .ok (.aload_n 0, 1) := dk_42 (dk_at dksX0_reaches_0 0 rfl rfl)
theorem dX0_reaches_1 : decode cX0_reaches 1 = .ok (.getfield 78, 3) := dk_180 0 78 (dk_at dksX0_reaches_0 1 rfl rfl)
theorem dX0_reaches_4 : decode cX0_reaches 4 = .ok (.iload_n 1, 1) := dk_27 (dk_at dksX0_reaches_0 4 rfl rfl)
theorem dX0_reaches_5 : decode cX0_reaches 5 = .ok (.invokevirtual 301, 3) := dk_182 1 45 (dk_at dksX0_reaches_0 5 rfl rfl)
theorem dX0_reaches_8 : decode cX0_reaches 8 = .ok (.ifCond .ne 5, 3) := dk_154 0 5 (dk_at dksX0_reaches_0 8 rfl rfl)
theorem dX0_reaches_11 : decode cX0_reaches 11 = .ok (.iconst 1, 1) := dk_4 (dk_at dksX0_reaches_0 11 rfl rfl)
theorem dX0_reaches_12 : decode cX0_reaches 12 = .ok (.ireturn, 1) := dk_172 (dk_at dksX0_reaches_0 12 rfl rfl)
theorem dX0_reaches_13 : decode cX0_reaches 13 = .ok (.aload_n 0, 1) := dk_42 (dk_at dksX0_reaches_0 13 rfl rfl)
theorem dX0_reaches_14 : decode cX0_reaches 14 = .ok (.aload_n 0, 1) := dk_42 (dk_at dksX0_reaches_0 14 rfl rfl)
theorem dX0_reaches_15 : decode cX0_reaches 15 = .ok (.getfield 78, 3) := dk_180 0 78 (dk_at dksX0_reaches_0 15 rfl rfl)
theorem dX0_reaches_18 : decode cX0_reaches 18 = .ok (.getfield 214, 3) := dk_180 0 214 (dk_at dksX0_reaches_0 18 rfl rfl)
theorem dX0_reaches_21 : decode cX0_reaches 21 = .ok (.aload_n 0, 1) := dk_42 (dk_at dksX0_reaches_0 21 rfl rfl)
theorem dX0_reaches_22 : decode cX0_reaches 22 = .ok (.iload_n 1, 1) := dk_27 (dk_at dksX0_reaches_0 22 rfl rfl)
theorem dX0_reaches_23 : decode cX0_reaches 23 = .ok (.invokevirtual 244, 3) := dk_182 0 244 (dk_at dksX0_reaches_1 0 rfl rfl)
theorem dX0_reaches_26 : decode cX0_reaches 26 = .ok (.getfield 248, 3) := dk_180 0 248 (dk_at dksX0_reaches_1 3 rfl rfl)
theorem dX0_reaches_29 : decode cX0_reaches 29 = .ok (.invokevirtual 286, 3) := dk_182 1 30 (dk_at dksX0_reaches_1 6 rfl rfl)
theorem dX0_reaches_32 : decode cX0_reaches 32 = .ok (.istore_n 2, 1) := dk_61 (dk_at dksX0_reaches_1 9 rfl rfl)
theorem dX0_reaches_33 : decode cX0_reaches 33 = .ok (.iload_n 2, 1) := dk_28 (dk_at dksX0_reaches_1 10 rfl rfl)
theorem dX0_reaches_34 : decode cX0_reaches 34 = .ok (.iconst (-1), 1) := dk_2 (dk_at dksX0_reaches_1 11 rfl rfl)
theorem dX0_reaches_35 : decode cX0_reaches 35 = .ok (.if_icmp .eq 11, 3) := dk_159 0 11 (dk_at dksX0_reaches_1 12 rfl rfl)
theorem dX0_reaches_38 : decode cX0_reaches 38 = .ok (.aload_n 0, 1) := dk_42 (dk_at dksX0_reaches_1 15 rfl rfl)
theorem dX0_reaches_39 : decode cX0_reaches 39 = .ok (.iload_n 2, 1) := dk_28 (dk_at dksX0_reaches_1 16 rfl rfl)
theorem dX0_reaches_40 : decode cX0_reaches 40 = .ok (.invokevirtual 307, 3) := dk_182 1 51 (dk_at dksX0_reaches_1 17 rfl rfl)
theorem dX0_reaches_43 : decode cX0_reaches 43 = .ok (.ifCond .ne 5, 3) := dk_154 0 5 (dk_at dksX0_reaches_1 20 rfl rfl)
theorem dX0_reaches_46 : decode cX0_reaches 46 = .ok (.iconst 0, 1) := dk_3 (dk_at dksX0_reaches_1 23 rfl rfl)
theorem dX0_reaches_47 : decode cX0_reaches 47 = .ok (.ireturn, 1) := dk_172 (dk_at dksX0_reaches_2 0 rfl rfl)
theorem dX0_reaches_48 : decode cX0_reaches 48 = .ok (.aload_n 0, 1) := dk_42 (dk_at dksX0_reaches_2 1 rfl rfl)
theorem dX0_reaches_49 : decode cX0_reaches 49 = .ok (.getfield 78, 3) := dk_180 0 78 (dk_at dksX0_reaches_2 2 rfl rfl)
theorem dX0_reaches_52 : decode cX0_reaches 52 = .ok (.aload_n 0, 1) := dk_42 (dk_at dksX0_reaches_2 5 rfl rfl)
theorem dX0_reaches_53 : decode cX0_reaches 53 = .ok (.iload_n 1, 1) := dk_27 (dk_at dksX0_reaches_2 6 rfl rfl)
theorem dX0_reaches_54 : decode cX0_reaches 54 = .ok (.invokevirtual 244, 3) := dk_182 0 244 (dk_at dksX0_reaches_2 7 rfl rfl)
theorem dX0_reaches_57 : decode cX0_reaches 57 = .ok (.getfield 248, 3) := dk_180 0 248 (dk_at dksX0_reaches_2 10 rfl rfl)
theorem dX0_reaches_60 : decode cX0_reaches 60 = .ok (.putfield 214, 3) := dk_181 0 214 (dk_at dksX0_reaches_2 13 rfl rfl)
theorem dX0_reaches_63 : decode cX0_reaches 63 = .ok (.iconst 0, 1) := dk_3 (dk_at dksX0_reaches_2 16 rfl rfl)
theorem dX0_reaches_64 : decode cX0_reaches 64 = .ok (.istore_n 3, 1) := dk_62 (dk_at dksX0_reaches_2 17 rfl rfl)
theorem dX0_reaches_65 : decode cX0_reaches 65 = .ok (.aload_n 0, 1) := dk_42 (dk_at dksX0_reaches_2 18 rfl rfl)
theorem dX0_reaches_66 : decode cX0_reaches 66 = .ok (.getfield 78, 3) := dk_180 0 78 (dk_at dksX0_reaches_2 19 rfl rfl)
theorem dX0_reaches_69 : decode cX0_reaches 69 = .ok (.iload_n 1, 1) := dk_27 (dk_at dksX0_reaches_2 22 rfl rfl)
theorem dX0_reaches_70 : decode cX0_reaches 70 = .ok (.invokevirtual 260, 3) := dk_182 1 4 (dk_at dksX0_reaches_3 0 rfl rfl)
theorem dX0_reaches_73 : decode cX0_reaches 73 = .ok (.ifCond .eq 25, 3) := dk_153 0 25 (dk_at dksX0_reaches_3 3 rfl rfl)
theorem dX0_reaches_76 : decode cX0_reaches 76 = .ok (.iload_n 3, 1) := dk_29 (dk_at dksX0_reaches_3 6 rfl rfl)
theorem dX0_reaches_77 : decode cX0_reaches 77 = .ok (.bipush 20, 2) := dk_16 20 (dk_at dksX0_reaches_3 7 rfl rfl)
theorem dX0_reaches_79 : decode cX0_reaches 79 = .ok (.if_icmp .eq 11, 3) := dk_159 0 11 (dk_at dksX0_reaches_3 9 rfl rfl)
theorem dX0_reaches_82 : decode cX0_reaches 82 = .ok (.aload_n 0, 1) := dk_42 (dk_at dksX0_reaches_3 12 rfl rfl)
theorem dX0_reaches_83 : decode cX0_reaches 83 = .ok (.iconst 1, 1) := dk_4 (dk_at dksX0_reaches_3 13 rfl rfl)
theorem dX0_reaches_84 : decode cX0_reaches 84 = .ok (.invokevirtual 307, 3) := dk_182 1 51 (dk_at dksX0_reaches_3 14 rfl rfl)
theorem dX0_reaches_87 : decode cX0_reaches 87 = .ok (.ifCond .ne 5, 3) := dk_154 0 5 (dk_at dksX0_reaches_3 17 rfl rfl)
theorem dX0_reaches_90 : decode cX0_reaches 90 = .ok (.iconst 0, 1) := dk_3 (dk_at dksX0_reaches_3 20 rfl rfl)
theorem dX0_reaches_91 : decode cX0_reaches 91 = .ok (.ireturn, 1) := dk_172 (dk_at dksX0_reaches_3 21 rfl rfl)
theorem dX0_reaches_92 : decode cX0_reaches 92 = .ok (.iinc 3 1, 3) := dk_132 3 1 (dk_at dksX0_reaches_4 0 rfl rfl)
theorem dX0_reaches_95 : decode cX0_reaches 95 = .ok (.goto (-30), 3) := dk_167 255 226 (dk_at dksX0_reaches_4 3 rfl rfl)
theorem dX0_reaches_98 : decode cX0_reaches 98 = .ok (.aload_n 0, 1) := dk_42 (dk_at dksX0_reaches_4 6 rfl rfl)
theorem dX0_reaches_99 : decode cX0_reaches 99 = .ok (.getfield 78, 3) := dk_180 0 78 (dk_at dksX0_reaches_4 7 rfl rfl)
theorem dX0_reaches_102 : decode cX0_reaches 102 = .ok (.iload_n 1, 1) := dk_27 (dk_at dksX0_reaches_4 10 rfl rfl)
theorem dX0_reaches_103 : decode cX0_reaches 103 = .ok (.invokevirtual 301, 3) := dk_182 1 45 (dk_at dksX0_reaches_4 11 rfl rfl)
theorem dX0_reaches_106 : decode cX0_reaches 106 = .ok (.ifCond .eq 12, 3) := dk_153 0 12 (dk_at dksX0_reaches_4 14 rfl rfl)
theorem dX0_reaches_109 : decode cX0_reaches 109 = .ok (.aload_n 0, 1) := dk_42 (dk_at dksX0_reaches_4 17 rfl rfl)
theorem dX0_reaches_110 : decode cX0_reaches 110 = .ok (.getfield 78, 3) := dk_180 0 78 (dk_at dksX0_reaches_4 18 rfl rfl)
theorem dX0_reaches_113 : decode cX0_reaches 113 = .ok (.iload_n 1, 1) := dk_27 (dk_at dksX0_reaches_4 21 rfl rfl)
theorem dX0_reaches_114 : decode cX0_reaches 114 = .ok (.invokevirtual 310, 3) := dk_182 1 54 (dk_at dksX0_reaches_5 0 rfl rfl)
theorem dX0_reaches_117 : decode cX0_reaches 117 = .ok (.pop, 1) := dk_87 (dk_at dksX0_reaches_5 3 rfl rfl)
theorem dX0_reaches_118 : decode cX0_reaches 118 = .ok (.iconst 1, 1) := dk_4 (dk_at dksX0_reaches_5 4 rfl rfl)
theorem dX0_reaches_119 : decode cX0_reaches 119 = .ok (.ireturn, 1) := dk_172 (dk_at dksX0_reaches_5 5 rfl rfl)
abbrev cX0_goesOn : ByteArray := prog_1_method_36_code
def yX0_goesOn : MethodName := ⟨RX0, "goesOn", "(I)Z"⟩
def dkwX0_goesOn_1 : List UInt8 := [182, 1, 42, 87, 4, 172]
abbrev dktX0_goesOn_1 : List UInt8 := dkwX0_goesOn_1 ++ []
def dkwX0_goesOn_0 : List UInt8 := [42, 180, 0, 78, 180, 0, 211, 27, 96, 17, 3, 231, 164, 0, 5, 3, 172, 42, 180, 0, 78, 27]
abbrev dktX0_goesOn_0 : List UInt8 := dkwX0_goesOn_0 ++ dktX0_goesOn_1
theorem dksX0_goesOn_0 : cX0_goesOn.data.toList.drop 0 = dktX0_goesOn_0 := by decide +kernel
theorem dksX0_goesOn_1 : cX0_goesOn.data.toList.drop 22 = dktX0_goesOn_1 := dk_seg dksX0_goesOn_0 22 rfl rfl
theorem dX0_goesOn_0 : decode cX0_goesOn 0 = .ok (.aload_n 0, 1) := dk_42 (dk_at dksX0_goesOn_0 0 rfl rfl)
theorem dX0_goesOn_1 : decode cX0_goesOn 1 = .ok (.getfield 78, 3) := dk_180 0 78 (dk_at dksX0_goesOn_0 1 rfl rfl)
theorem dX0_goesOn_4 : decode cX0_goesOn 4 = .ok (.getfield 211, 3) := dk_180 0 211 (dk_at dksX0_goesOn_0 4 rfl rfl)
theorem dX0_goesOn_7 : decode cX0_goesOn 7 = .ok (.iload_n 1, 1) := dk_27 (dk_at dksX0_goesOn_0 7 rfl rfl)
theorem dX0_goesOn_8 : decode cX0_goesOn 8 = .ok (.iadd, 1) := dk_96 (dk_at dksX0_goesOn_0 8 rfl rfl)
theorem dX0_goesOn_9 : decode cX0_goesOn 9 = .ok (.sipush 999, 3) := dk_17 3 231 (dk_at dksX0_goesOn_0 9 rfl rfl)
theorem dX0_goesOn_12 : decode cX0_goesOn 12 = .ok (.if_icmp .le 5, 3) := dk_164 0 5 (dk_at dksX0_goesOn_0 12 rfl rfl)
theorem dX0_goesOn_15 : decode cX0_goesOn 15 = .ok (.iconst 0, 1) := dk_3 (dk_at dksX0_goesOn_0 15 rfl rfl)
theorem dX0_goesOn_16 : decode cX0_goesOn 16 = .ok (.ireturn, 1) := dk_172 (dk_at dksX0_goesOn_0 16 rfl rfl)
theorem dX0_goesOn_17 : decode cX0_goesOn 17 = .ok (.aload_n 0, 1) := dk_42 (dk_at dksX0_goesOn_0 17 rfl rfl)
theorem dX0_goesOn_18 : decode cX0_goesOn 18 = .ok (.getfield 78, 3) := dk_180 0 78 (dk_at dksX0_goesOn_0 18 rfl rfl)
theorem dX0_goesOn_21 : decode cX0_goesOn 21 = .ok (.iload_n 1, 1) := dk_27 (dk_at dksX0_goesOn_0 21 rfl rfl)
theorem dX0_goesOn_22 : decode cX0_goesOn 22 = .ok (.invokevirtual 298, 3) := dk_182 1 42 (dk_at dksX0_goesOn_1 0 rfl rfl)
theorem dX0_goesOn_25 : decode cX0_goesOn 25 = .ok (.pop, 1) := dk_87 (dk_at dksX0_goesOn_1 3 rfl rfl)
theorem dX0_goesOn_26 : decode cX0_goesOn 26 = .ok (.iconst 1, 1) := dk_4 (dk_at dksX0_goesOn_1 4 rfl rfl)
theorem dX0_goesOn_27 : decode cX0_goesOn 27 = .ok (.ireturn, 1) := dk_172 (dk_at dksX0_goesOn_1 5 rfl rfl)
abbrev cX0_least : ByteArray := prog_1_method_41_code
def yX0_least : MethodName := ⟨RX0, "least", "()I"⟩
def dkwX0_least_5 : List UInt8 := [172]
abbrev dktX0_least_5 : List UInt8 := dkwX0_least_5 ++ []
def dkwX0_least_4 : List UInt8 := [132, 5, 1, 167, 255, 217, 27, 21, 4, 2, 130, 126, 154, 0, 5, 29, 61, 132, 3, 1, 167, 255, 157, 28]
abbrev dktX0_least_4 : List UInt8 := dkwX0_least_4 ++ dktX0_least_5
def dkwX0_least_3 : List UInt8 := [184, 1, 20, 153, 0, 15, 42, 180, 0, 74, 21, 5, 182, 1, 24, 167, 0, 4, 3, 128, 54, 4]
abbrev dktX0_least_3 : List UInt8 := dkwX0_least_3 ++ dktX0_least_4
def dkwX0_least_2 : List UInt8 := [167, 0, 62, 29, 54, 4, 3, 54, 5, 21, 5, 42, 182, 0, 181, 162, 0, 36, 21, 4, 29, 21, 5]
abbrev dktX0_least_2 : List UInt8 := dkwX0_least_2 ++ dktX0_least_3
def dkwX0_least_1 : List UInt8 := [2, 130, 126, 154, 0, 81, 28, 2, 159, 0, 17, 29, 184, 0, 220, 28, 184, 0, 220, 161, 0, 6]
abbrev dktX0_least_1 : List UInt8 := dkwX0_least_1 ++ dktX0_least_2
def dkwX0_least_0 : List UInt8 := [42, 180, 0, 74, 182, 0, 217, 60, 2, 61, 3, 62, 29, 4, 42, 182, 0, 181, 120, 162, 0, 95, 29, 27]
abbrev dktX0_least_0 : List UInt8 := dkwX0_least_0 ++ dktX0_least_1
theorem dksX0_least_0 : cX0_least.data.toList.drop 0 = dktX0_least_0 := by decide +kernel
theorem dksX0_least_1 : cX0_least.data.toList.drop 24 = dktX0_least_1 := dk_seg dksX0_least_0 24 rfl rfl
theorem dksX0_least_2 : cX0_least.data.toList.drop 46 = dktX0_least_2 := dk_seg dksX0_least_1 22 rfl rfl
theorem dksX0_least_3 : cX0_least.data.toList.drop 69 = dktX0_least_3 := dk_seg dksX0_least_2 23 rfl rfl
theorem dksX0_least_4 : cX0_least.data.toList.drop 91 = dktX0_least_4 := dk_seg dksX0_least_3 22 rfl rfl
theorem dksX0_least_5 : cX0_least.data.toList.drop 115 = dktX0_least_5 := dk_seg dksX0_least_4 24 rfl rfl
theorem dX0_least_0 : decode cX0_least 0 = .ok (.aload_n 0, 1) := dk_42 (dk_at dksX0_least_0 0 rfl rfl)
theorem dX0_least_1 : decode cX0_least 1 = .ok (.getfield 74, 3) := dk_180 0 74 (dk_at dksX0_least_0 1 rfl rfl)
theorem dX0_least_4 : decode cX0_least 4 = .ok (.invokevirtual 217, 3) := dk_182 0 217 (dk_at dksX0_least_0 4 rfl rfl)
theorem dX0_least_7 : decode cX0_least 7 = .ok (.istore_n 1, 1) := dk_60 (dk_at dksX0_least_0 7 rfl rfl)
theorem dX0_least_8 : decode cX0_least 8 = .ok (.iconst (-1), 1) := dk_2 (dk_at dksX0_least_0 8 rfl rfl)
theorem dX0_least_9 : decode cX0_least 9 = .ok (.istore_n 2, 1) := dk_61 (dk_at dksX0_least_0 9 rfl rfl)
theorem dX0_least_10 : decode cX0_least 10 = .ok (.iconst 0, 1) := dk_3 (dk_at dksX0_least_0 10 rfl rfl)
theorem dX0_least_11 : decode cX0_least 11 = .ok (.istore_n 3, 1) := dk_62 (dk_at dksX0_least_0 11 rfl rfl)
theorem dX0_least_12 : decode cX0_least 12 = .ok (.iload_n 3, 1) := dk_29 (dk_at dksX0_least_0 12 rfl rfl)
theorem dX0_least_13 : decode cX0_least 13 = .ok (.iconst 1, 1) := dk_4 (dk_at dksX0_least_0 13 rfl rfl)
theorem dX0_least_14 : decode cX0_least 14 = .ok (.aload_n 0, 1) := dk_42 (dk_at dksX0_least_0 14 rfl rfl)
theorem dX0_least_15 : decode cX0_least 15 = .ok (.invokevirtual 181, 3) := dk_182 0 181 (dk_at dksX0_least_0 15 rfl rfl)
theorem dX0_least_18 : decode cX0_least 18 = .ok (.ishl, 1) := dk_120 (dk_at dksX0_least_0 18 rfl rfl)
theorem dX0_least_19 : decode cX0_least 19 = .ok (.if_icmp .ge 95, 3) := dk_162 0 95 (dk_at dksX0_least_0 19 rfl rfl)
theorem dX0_least_22 : decode cX0_least 22 = .ok (.iload_n 3, 1) := dk_29 (dk_at dksX0_least_0 22 rfl rfl)
theorem dX0_least_23 : decode cX0_least 23 = .ok (.iload_n 1, 1) := dk_27 (dk_at dksX0_least_0 23 rfl rfl)
theorem dX0_least_24 : decode cX0_least 24 = .ok (.iconst (-1), 1) := dk_2 (dk_at dksX0_least_1 0 rfl rfl)
theorem dX0_least_25 : decode cX0_least 25 = .ok (.ixor, 1) := dk_130 (dk_at dksX0_least_1 1 rfl rfl)
theorem dX0_least_26 : decode cX0_least 26 = .ok (.iand, 1) := dk_126 (dk_at dksX0_least_1 2 rfl rfl)
theorem dX0_least_27 : decode cX0_least 27 = .ok (.ifCond .ne 81, 3) := dk_154 0 81 (dk_at dksX0_least_1 3 rfl rfl)
theorem dX0_least_30 : decode cX0_least 30 = .ok (.iload_n 2, 1) := dk_28 (dk_at dksX0_least_1 6 rfl rfl)
theorem dX0_least_31 : decode cX0_least 31 = .ok (.iconst (-1), 1) := dk_2 (dk_at dksX0_least_1 7 rfl rfl)
theorem dX0_least_32 : decode cX0_least 32 = .ok (.if_icmp .eq 17, 3) := dk_159 0 17 (dk_at dksX0_least_1 8 rfl rfl)
theorem dX0_least_35 : decode cX0_least 35 = .ok (.iload_n 3, 1) := dk_29 (dk_at dksX0_least_1 11 rfl rfl)
theorem dX0_least_36 : decode cX0_least 36 = .ok (.invokestatic 220, 3) := dk_184 0 220 (dk_at dksX0_least_1 12 rfl rfl)
theorem dX0_least_39 : decode cX0_least 39 = .ok (.iload_n 2, 1) := dk_28 (dk_at dksX0_least_1 15 rfl rfl)
theorem dX0_least_40 : decode cX0_least 40 = .ok (.invokestatic 220, 3) := dk_184 0 220 (dk_at dksX0_least_1 16 rfl rfl)
theorem dX0_least_43 : decode cX0_least 43 = .ok (.if_icmp .lt 6, 3) := dk_161 0 6 (dk_at dksX0_least_1 19 rfl rfl)
theorem dX0_least_46 : decode cX0_least 46 = .ok (.goto 62, 3) := dk_167 0 62 (dk_at dksX0_least_2 0 rfl rfl)
theorem dX0_least_49 : decode cX0_least 49 = .ok (.iload_n 3, 1) := dk_29 (dk_at dksX0_least_2 3 rfl rfl)
theorem dX0_least_50 : decode cX0_least 50 = .ok (.istore 4, 2) := dk_54 4 (dk_at dksX0_least_2 4 rfl rfl)
theorem dX0_least_52 : decode cX0_least 52 = .ok (.iconst 0, 1) := dk_3 (dk_at dksX0_least_2 6 rfl rfl)
theorem dX0_least_53 : decode cX0_least 53 = .ok (.istore 5, 2) := dk_54 5 (dk_at dksX0_least_2 7 rfl rfl)
theorem dX0_least_55 : decode cX0_least 55 = .ok (.iload 5, 2) := dk_21 5 (dk_at dksX0_least_2 9 rfl rfl)
theorem dX0_least_57 : decode cX0_least 57 = .ok (.aload_n 0, 1) := dk_42 (dk_at dksX0_least_2 11 rfl rfl)
theorem dX0_least_58 : decode cX0_least 58 = .ok (.invokevirtual 181, 3) := dk_182 0 181 (dk_at dksX0_least_2 12 rfl rfl)
theorem dX0_least_61 : decode cX0_least 61 = .ok (.if_icmp .ge 36, 3) := dk_162 0 36 (dk_at dksX0_least_2 15 rfl rfl)
theorem dX0_least_64 : decode cX0_least 64 = .ok (.iload 4, 2) := dk_21 4 (dk_at dksX0_least_2 18 rfl rfl)
theorem dX0_least_66 : decode cX0_least 66 = .ok (.iload_n 3, 1) := dk_29 (dk_at dksX0_least_2 20 rfl rfl)
theorem dX0_least_67 : decode cX0_least 67 = .ok (.iload 5, 2) := dk_21 5 (dk_at dksX0_least_2 21 rfl rfl)
theorem dX0_least_69 : decode cX0_least 69 = .ok (.invokestatic 276, 3) := dk_184 1 20 (dk_at dksX0_least_3 0 rfl rfl)
theorem dX0_least_72 : decode cX0_least 72 = .ok (.ifCond .eq 15, 3) := dk_153 0 15 (dk_at dksX0_least_3 3 rfl rfl)
theorem dX0_least_75 : decode cX0_least 75 = .ok (.aload_n 0, 1) := dk_42 (dk_at dksX0_least_3 6 rfl rfl)
theorem dX0_least_76 : decode cX0_least 76 = .ok (.getfield 74, 3) := dk_180 0 74 (dk_at dksX0_least_3 7 rfl rfl)
theorem dX0_least_79 : decode cX0_least 79 = .ok (.iload 5, 2) := dk_21 5 (dk_at dksX0_least_3 10 rfl rfl)
theorem dX0_least_81 : decode cX0_least 81 = .ok (.invokevirtual 280, 3) := dk_182 1 24 (dk_at dksX0_least_3 12 rfl rfl)
theorem dX0_least_84 : decode cX0_least 84 = .ok (.goto 4, 3) := dk_167 0 4 (dk_at dksX0_least_3 15 rfl rfl)
theorem dX0_least_87 : decode cX0_least 87 = .ok (.iconst 0, 1) := dk_3 (dk_at dksX0_least_3 18 rfl rfl)
theorem dX0_least_88 : decode cX0_least 88 = .ok (.ior, 1) := dk_128 (dk_at dksX0_least_3 19 rfl rfl)
theorem dX0_least_89 : decode cX0_least 89 = .ok (.istore 4, 2) := dk_54 4 (dk_at dksX0_least_3 20 rfl rfl)
theorem dX0_least_91 : decode cX0_least 91 = .ok (.iinc 5 1, 3) := dk_132 5 1 (dk_at dksX0_least_4 0 rfl rfl)
theorem dX0_least_94 : decode cX0_least 94 = .ok (.goto (-39), 3) := dk_167 255 217 (dk_at dksX0_least_4 3 rfl rfl)
theorem dX0_least_97 : decode cX0_least 97 = .ok (.iload_n 1, 1) := dk_27 (dk_at dksX0_least_4 6 rfl rfl)
theorem dX0_least_98 : decode cX0_least 98 = .ok (.iload 4, 2) := dk_21 4 (dk_at dksX0_least_4 7 rfl rfl)
theorem dX0_least_100 : decode cX0_least 100 = .ok (.iconst (-1), 1) := dk_2 (dk_at dksX0_least_4 9 rfl rfl)
theorem dX0_least_101 : decode cX0_least 101 = .ok (.ixor, 1) := dk_130 (dk_at dksX0_least_4 10 rfl rfl)
theorem dX0_least_102 : decode cX0_least 102 = .ok (.iand, 1) := dk_126 (dk_at dksX0_least_4 11 rfl rfl)
theorem dX0_least_103 : decode cX0_least 103 = .ok (.ifCond .ne 5, 3) := dk_154 0 5 (dk_at dksX0_least_4 12 rfl rfl)
theorem dX0_least_106 : decode cX0_least 106 = .ok (.iload_n 3, 1) := dk_29 (dk_at dksX0_least_4 15 rfl rfl)
theorem dX0_least_107 : decode cX0_least 107 = .ok (.istore_n 2, 1) := dk_61 (dk_at dksX0_least_4 16 rfl rfl)
theorem dX0_least_108 : decode cX0_least 108 = .ok (.iinc 3 1, 3) := dk_132 3 1 (dk_at dksX0_least_4 17 rfl rfl)
theorem dX0_least_111 : decode cX0_least 111 = .ok (.goto (-99), 3) := dk_167 255 157 (dk_at dksX0_least_4 20 rfl rfl)
theorem dX0_least_114 : decode cX0_least 114 = .ok (.iload_n 2, 1) := dk_28 (dk_at dksX0_least_4 23 rfl rfl)
theorem dX0_least_115 : decode cX0_least 115 = .ok (.ireturn, 1) := dk_172 (dk_at dksX0_least_5 0 rfl rfl)
abbrev cX0_keep : ByteArray := prog_1_method_44_code
def yX0_keep : MethodName := ⟨RX0, "keep", "(II)I"⟩
def dkwX0_keep_2 : List UInt8 := [27, 182, 1, 70, 153, 0, 15, 42, 28, 27, 182, 1, 73, 132, 3, 1, 167, 255, 238, 29, 172]
abbrev dktX0_keep_2 : List UInt8 := dkwX0_keep_2 ++ []
def dkwX0_keep_1 : List UInt8 := [62, 29, 16, 12, 162, 0, 16, 42, 180, 0, 90, 29, 3, 84, 132, 3, 1, 167, 255, 240, 3, 62, 42, 28]
abbrev dktX0_keep_1 : List UInt8 := dkwX0_keep_1 ++ dktX0_keep_2
def dkwX0_keep_0 : List UInt8 := [42, 27, 182, 0, 240, 153, 0, 16, 42, 28, 182, 0, 240, 153, 0, 8, 27, 28, 160, 0, 5, 2, 172, 3]
abbrev dktX0_keep_0 : List UInt8 := dkwX0_keep_0 ++ dktX0_keep_1
theorem dksX0_keep_0 : cX0_keep.data.toList.drop 0 = dktX0_keep_0 := by decide +kernel
theorem dksX0_keep_1 : cX0_keep.data.toList.drop 24 = dktX0_keep_1 := dk_seg dksX0_keep_0 24 rfl rfl
theorem dksX0_keep_2 : cX0_keep.data.toList.drop 48 = dktX0_keep_2 := dk_seg dksX0_keep_1 24 rfl rfl
theorem dX0_keep_0 : decode cX0_keep 0 = .ok (.aload_n 0, 1) := dk_42 (dk_at dksX0_keep_0 0 rfl rfl)
theorem dX0_keep_1 : decode cX0_keep 1 = .ok (.iload_n 1, 1) := dk_27 (dk_at dksX0_keep_0 1 rfl rfl)
theorem dX0_keep_2 : decode cX0_keep 2 = .ok (.invokevirtual 240, 3) := dk_182 0 240 (dk_at dksX0_keep_0 2 rfl rfl)
theorem dX0_keep_5 : decode cX0_keep 5 = .ok (.ifCond .eq 16, 3) := dk_153 0 16 (dk_at dksX0_keep_0 5 rfl rfl)
theorem dX0_keep_8 : decode cX0_keep 8 = .ok (.aload_n 0, 1) := dk_42 (dk_at dksX0_keep_0 8 rfl rfl)
theorem dX0_keep_9 : decode cX0_keep 9 = .ok (.iload_n 2, 1) := dk_28 (dk_at dksX0_keep_0 9 rfl rfl)
theorem dX0_keep_10 : decode cX0_keep 10 = .ok (.invokevirtual 240, 3) := dk_182 0 240 (dk_at dksX0_keep_0 10 rfl rfl)
theorem dX0_keep_13 : decode cX0_keep 13 = .ok (.ifCond .eq 8, 3) := dk_153 0 8 (dk_at dksX0_keep_0 13 rfl rfl)
theorem dX0_keep_16 : decode cX0_keep 16 = .ok (.iload_n 1, 1) := dk_27 (dk_at dksX0_keep_0 16 rfl rfl)
theorem dX0_keep_17 : decode cX0_keep 17 = .ok (.iload_n 2, 1) := dk_28 (dk_at dksX0_keep_0 17 rfl rfl)
theorem dX0_keep_18 : decode cX0_keep 18 = .ok (.if_icmp .ne 5, 3) := dk_160 0 5 (dk_at dksX0_keep_0 18 rfl rfl)
theorem dX0_keep_21 : decode cX0_keep 21 = .ok (.iconst (-1), 1) := dk_2 (dk_at dksX0_keep_0 21 rfl rfl)
theorem dX0_keep_22 : decode cX0_keep 22 = .ok (.ireturn, 1) := dk_172 (dk_at dksX0_keep_0 22 rfl rfl)
theorem dX0_keep_23 : decode cX0_keep 23 = .ok (.iconst 0, 1) := dk_3 (dk_at dksX0_keep_0 23 rfl rfl)
theorem dX0_keep_24 : decode cX0_keep 24 = .ok (.istore_n 3, 1) := dk_62 (dk_at dksX0_keep_1 0 rfl rfl)
theorem dX0_keep_25 : decode cX0_keep 25 = .ok (.iload_n 3, 1) := dk_29 (dk_at dksX0_keep_1 1 rfl rfl)
theorem dX0_keep_26 : decode cX0_keep 26 = .ok (.bipush 12, 2) := dk_16 12 (dk_at dksX0_keep_1 2 rfl rfl)
theorem dX0_keep_28 : decode cX0_keep 28 = .ok (.if_icmp .ge 16, 3) := dk_162 0 16 (dk_at dksX0_keep_1 4 rfl rfl)
theorem dX0_keep_31 : decode cX0_keep 31 = .ok (.aload_n 0, 1) := dk_42 (dk_at dksX0_keep_1 7 rfl rfl)
theorem dX0_keep_32 : decode cX0_keep 32 = .ok (.getfield 90, 3) := dk_180 0 90 (dk_at dksX0_keep_1 8 rfl rfl)
theorem dX0_keep_35 : decode cX0_keep 35 = .ok (.iload_n 3, 1) := dk_29 (dk_at dksX0_keep_1 11 rfl rfl)
theorem dX0_keep_36 : decode cX0_keep 36 = .ok (.iconst 0, 1) := dk_3 (dk_at dksX0_keep_1 12 rfl rfl)
theorem dX0_keep_37 : decode cX0_keep 37 = .ok (.bastore, 1) := dk_84 (dk_at dksX0_keep_1 13 rfl rfl)
theorem dX0_keep_38 : decode cX0_keep 38 = .ok (.iinc 3 1, 3) := dk_132 3 1 (dk_at dksX0_keep_1 14 rfl rfl)
theorem dX0_keep_41 : decode cX0_keep 41 = .ok (.goto (-16), 3) := dk_167 255 240 (dk_at dksX0_keep_1 17 rfl rfl)
theorem dX0_keep_44 : decode cX0_keep 44 = .ok (.iconst 0, 1) := dk_3 (dk_at dksX0_keep_1 20 rfl rfl)
theorem dX0_keep_45 : decode cX0_keep 45 = .ok (.istore_n 3, 1) := dk_62 (dk_at dksX0_keep_1 21 rfl rfl)
theorem dX0_keep_46 : decode cX0_keep 46 = .ok (.aload_n 0, 1) := dk_42 (dk_at dksX0_keep_1 22 rfl rfl)
theorem dX0_keep_47 : decode cX0_keep 47 = .ok (.iload_n 2, 1) := dk_28 (dk_at dksX0_keep_1 23 rfl rfl)
theorem dX0_keep_48 : decode cX0_keep 48 = .ok (.iload_n 1, 1) := dk_27 (dk_at dksX0_keep_2 0 rfl rfl)
theorem dX0_keep_49 : decode cX0_keep 49 = .ok (.invokevirtual 326, 3) := dk_182 1 70 (dk_at dksX0_keep_2 1 rfl rfl)
theorem dX0_keep_52 : decode cX0_keep 52 = .ok (.ifCond .eq 15, 3) := dk_153 0 15 (dk_at dksX0_keep_2 4 rfl rfl)
theorem dX0_keep_55 : decode cX0_keep 55 = .ok (.aload_n 0, 1) := dk_42 (dk_at dksX0_keep_2 7 rfl rfl)
theorem dX0_keep_56 : decode cX0_keep 56 = .ok (.iload_n 2, 1) := dk_28 (dk_at dksX0_keep_2 8 rfl rfl)
theorem dX0_keep_57 : decode cX0_keep 57 = .ok (.iload_n 1, 1) := dk_27 (dk_at dksX0_keep_2 9 rfl rfl)
theorem dX0_keep_58 : decode cX0_keep 58 = .ok (.invokevirtual 329, 3) := dk_182 1 73 (dk_at dksX0_keep_2 10 rfl rfl)
theorem dX0_keep_61 : decode cX0_keep 61 = .ok (.iinc 3 1, 3) := dk_132 3 1 (dk_at dksX0_keep_2 13 rfl rfl)
theorem dX0_keep_64 : decode cX0_keep 64 = .ok (.goto (-18), 3) := dk_167 255 238 (dk_at dksX0_keep_2 16 rfl rfl)
theorem dX0_keep_67 : decode cX0_keep 67 = .ok (.iload_n 3, 1) := dk_29 (dk_at dksX0_keep_2 19 rfl rfl)
theorem dX0_keep_68 : decode cX0_keep 68 = .ok (.ireturn, 1) := dk_172 (dk_at dksX0_keep_2 20 rfl rfl)
abbrev cX0_leadsOn : ByteArray := prog_1_method_42_code
def yX0_leadsOn : MethodName := ⟨RX0, "leadsOn", "(II)Z"⟩
def dkwX0_leadsOn_8 : List UInt8 := [180, 0, 94, 28, 46, 2, 159, 0, 7, 4, 167, 0, 4, 3, 172]
abbrev dktX0_leadsOn_8 : List UInt8 := dkwX0_leadsOn_8 ++ []
def dkwX0_leadsOn_7 : List UInt8 := [167, 0, 14, 42, 180, 0, 94, 21, 6, 21, 4, 79, 4, 62, 132, 4, 1, 167, 255, 115, 167, 255, 93, 42]
abbrev dktX0_leadsOn_7 : List UInt8 := dkwX0_leadsOn_7 ++ dktX0_leadsOn_8
def dkwX0_leadsOn_6 : List UInt8 := [21, 6, 46, 2, 160, 0, 34, 21, 5, 27, 159, 0, 17, 42, 180, 0, 94, 21, 5, 46, 2, 160, 0, 6]
abbrev dktX0_leadsOn_6 : List UInt8 := dkwX0_leadsOn_6 ++ dktX0_leadsOn_7
def dkwX0_leadsOn_5 : List UInt8 := [180, 0, 74, 180, 0, 225, 21, 4, 184, 1, 20, 153, 0, 51, 21, 6, 27, 159, 0, 45, 42, 180, 0, 94]
abbrev dktX0_leadsOn_5 : List UInt8 := dkwX0_leadsOn_5 ++ dktX0_leadsOn_6
def dkwX0_leadsOn_4 : List UInt8 := [42, 21, 4, 182, 1, 10, 180, 1, 14, 167, 0, 12, 42, 21, 4, 182, 1, 10, 180, 1, 17, 54, 6, 42]
abbrev dktX0_leadsOn_4 : List UInt8 := dkwX0_leadsOn_4 ++ dktX0_leadsOn_5
def dkwX0_leadsOn_3 : List UInt8 := [167, 0, 12, 42, 21, 4, 182, 1, 10, 180, 1, 14, 54, 5, 42, 180, 0, 90, 21, 4, 51, 153, 0, 15]
abbrev dktX0_leadsOn_3 : List UInt8 := dkwX0_leadsOn_3 ++ dktX0_leadsOn_4
def dkwX0_leadsOn_2 : List UInt8 := [162, 0, 138, 42, 180, 0, 90, 21, 4, 51, 153, 0, 15, 42, 21, 4, 182, 1, 10, 180, 1, 17]
abbrev dktX0_leadsOn_2 : List UInt8 := dkwX0_leadsOn_2 ++ dktX0_leadsOn_3
def dkwX0_leadsOn_1 : List UInt8 := [153, 0, 165, 42, 180, 0, 94, 28, 46, 2, 160, 0, 155, 3, 62, 3, 54, 4, 21, 4, 42, 182, 0, 183]
abbrev dktX0_leadsOn_1 : List UInt8 := dkwX0_leadsOn_1 ++ dktX0_leadsOn_2
def dkwX0_leadsOn_0 : List UInt8 := [3, 62, 29, 16, 8, 162, 0, 16, 42, 180, 0, 94, 29, 2, 79, 132, 3, 1, 167, 255, 240, 4, 62, 29]
abbrev dktX0_leadsOn_0 : List UInt8 := dkwX0_leadsOn_0 ++ dktX0_leadsOn_1
theorem dksX0_leadsOn_0 : cX0_leadsOn.data.toList.drop 0 = dktX0_leadsOn_0 := by decide +kernel
theorem dksX0_leadsOn_1 : cX0_leadsOn.data.toList.drop 24 = dktX0_leadsOn_1 := dk_seg dksX0_leadsOn_0 24 rfl rfl
theorem dksX0_leadsOn_2 : cX0_leadsOn.data.toList.drop 48 = dktX0_leadsOn_2 := dk_seg dksX0_leadsOn_1 24 rfl rfl
theorem dksX0_leadsOn_3 : cX0_leadsOn.data.toList.drop 70 = dktX0_leadsOn_3 := dk_seg dksX0_leadsOn_2 22 rfl rfl
theorem dksX0_leadsOn_4 : cX0_leadsOn.data.toList.drop 94 = dktX0_leadsOn_4 := dk_seg dksX0_leadsOn_3 24 rfl rfl
theorem dksX0_leadsOn_5 : cX0_leadsOn.data.toList.drop 118 = dktX0_leadsOn_5 := dk_seg dksX0_leadsOn_4 24 rfl rfl
theorem dksX0_leadsOn_6 : cX0_leadsOn.data.toList.drop 142 = dktX0_leadsOn_6 := dk_seg dksX0_leadsOn_5 24 rfl rfl
theorem dksX0_leadsOn_7 : cX0_leadsOn.data.toList.drop 166 = dktX0_leadsOn_7 := dk_seg dksX0_leadsOn_6 24 rfl rfl
theorem dksX0_leadsOn_8 : cX0_leadsOn.data.toList.drop 190 = dktX0_leadsOn_8 := dk_seg dksX0_leadsOn_7 24 rfl rfl
theorem dX0_leadsOn_0 : decode cX0_leadsOn 0 = .ok (.iconst 0, 1) := dk_3 (dk_at dksX0_leadsOn_0 0 rfl rfl)
theorem dX0_leadsOn_1 : decode cX0_leadsOn 1 = .ok (.istore_n 3, 1) := dk_62 (dk_at dksX0_leadsOn_0 1 rfl rfl)
theorem dX0_leadsOn_2 : decode cX0_leadsOn 2 = .ok (.iload_n 3, 1) := dk_29 (dk_at dksX0_leadsOn_0 2 rfl rfl)
theorem dX0_leadsOn_3 : decode cX0_leadsOn 3 = .ok (.bipush 8, 2) := dk_16 8 (dk_at dksX0_leadsOn_0 3 rfl rfl)
theorem dX0_leadsOn_5 : decode cX0_leadsOn 5 = .ok (.if_icmp .ge 16, 3) := dk_162 0 16 (dk_at dksX0_leadsOn_0 5 rfl rfl)
theorem dX0_leadsOn_8 : decode cX0_leadsOn 8 = .ok (.aload_n 0, 1) := dk_42 (dk_at dksX0_leadsOn_0 8 rfl rfl)
theorem dX0_leadsOn_9 : decode cX0_leadsOn 9 = .ok (.getfield 94, 3) := dk_180 0 94 (dk_at dksX0_leadsOn_0 9 rfl rfl)
theorem dX0_leadsOn_12 : decode cX0_leadsOn 12 = .ok (.iload_n 3, 1) := dk_29 (dk_at dksX0_leadsOn_0 12 rfl rfl)
theorem dX0_leadsOn_13 : decode cX0_leadsOn 13 = .ok (.iconst (-1), 1) := dk_2 (dk_at dksX0_leadsOn_0 13 rfl rfl)
theorem dX0_leadsOn_14 : decode cX0_leadsOn 14 = .ok (.iastore, 1) := dk_79 (dk_at dksX0_leadsOn_0 14 rfl rfl)
theorem dX0_leadsOn_15 : decode cX0_leadsOn 15 = .ok (.iinc 3 1, 3) := dk_132 3 1 (dk_at dksX0_leadsOn_0 15 rfl rfl)
theorem dX0_leadsOn_18 : decode cX0_leadsOn 18 = .ok (.goto (-16), 3) := dk_167 255 240 (dk_at dksX0_leadsOn_0 18 rfl rfl)
theorem dX0_leadsOn_21 : decode cX0_leadsOn 21 = .ok (.iconst 1, 1) := dk_4 (dk_at dksX0_leadsOn_0 21 rfl rfl)
theorem dX0_leadsOn_22 : decode cX0_leadsOn 22 = .ok (.istore_n 3, 1) := dk_62 (dk_at dksX0_leadsOn_0 22 rfl rfl)
theorem dX0_leadsOn_23 : decode cX0_leadsOn 23 = .ok (.iload_n 3, 1) := dk_29 (dk_at dksX0_leadsOn_0 23 rfl rfl)
theorem dX0_leadsOn_24 : decode cX0_leadsOn 24 = .ok (.ifCond .eq 165, 3) := dk_153 0 165 (dk_at dksX0_leadsOn_1 0 rfl rfl)
theorem dX0_leadsOn_27 : decode cX0_leadsOn 27 = .ok (.aload_n 0, 1) := dk_42 (dk_at dksX0_leadsOn_1 3 rfl rfl)
theorem dX0_leadsOn_28 : decode cX0_leadsOn 28 = .ok (.getfield 94, 3) := dk_180 0 94 (dk_at dksX0_leadsOn_1 4 rfl rfl)
theorem dX0_leadsOn_31 : decode cX0_leadsOn 31 = .ok (.iload_n 2, 1) := dk_28 (dk_at dksX0_leadsOn_1 7 rfl rfl)
theorem dX0_leadsOn_32 : decode cX0_leadsOn 32 = .ok (.iaload, 1) := dk_46 (dk_at dksX0_leadsOn_1 8 rfl rfl)
theorem dX0_leadsOn_33 : decode cX0_leadsOn 33 = .ok (.iconst (-1), 1) := dk_2 (dk_at dksX0_leadsOn_1 9 rfl rfl)
theorem dX0_leadsOn_34 : decode cX0_leadsOn 34 = .ok (.if_icmp .ne 155, 3) := dk_160 0 155 (dk_at dksX0_leadsOn_1 10 rfl rfl)
theorem dX0_leadsOn_37 : decode cX0_leadsOn 37 = .ok (.iconst 0, 1) := dk_3 (dk_at dksX0_leadsOn_1 13 rfl rfl)
theorem dX0_leadsOn_38 : decode cX0_leadsOn 38 = .ok (.istore_n 3, 1) := dk_62 (dk_at dksX0_leadsOn_1 14 rfl rfl)
theorem dX0_leadsOn_39 : decode cX0_leadsOn 39 = .ok (.iconst 0, 1) := dk_3 (dk_at dksX0_leadsOn_1 15 rfl rfl)
theorem dX0_leadsOn_40 : decode cX0_leadsOn 40 = .ok (.istore 4, 2) := dk_54 4 (dk_at dksX0_leadsOn_1 16 rfl rfl)
theorem dX0_leadsOn_42 : decode cX0_leadsOn 42 = .ok (.iload 4, 2) := dk_21 4 (dk_at dksX0_leadsOn_1 18 rfl rfl)
theorem dX0_leadsOn_44 : decode cX0_leadsOn 44 = .ok (.aload_n 0, 1) := dk_42 (dk_at dksX0_leadsOn_1 20 rfl rfl)
theorem dX0_leadsOn_45 : decode cX0_leadsOn 45 = .ok (.invokevirtual 183, 3) := dk_182 0 183 (dk_at dksX0_leadsOn_1 21 rfl rfl)
theorem dX0_leadsOn_48 : decode cX0_leadsOn 48 = .ok (.if_icmp .ge 138, 3) := dk_162 0 138 (dk_at dksX0_leadsOn_2 0 rfl rfl)
theorem dX0_leadsOn_51 : decode cX0_leadsOn 51 = .ok (.aload_n 0, 1) := dk_42 (dk_at dksX0_leadsOn_2 3 rfl rfl)
theorem dX0_leadsOn_52 : decode cX0_leadsOn 52 = .ok (.getfield 90, 3) := dk_180 0 90 (dk_at dksX0_leadsOn_2 4 rfl rfl)
theorem dX0_leadsOn_55 : decode cX0_leadsOn 55 = .ok (.iload 4, 2) := dk_21 4 (dk_at dksX0_leadsOn_2 7 rfl rfl)
theorem dX0_leadsOn_57 : decode cX0_leadsOn 57 = .ok (.baload, 1) := dk_51 (dk_at dksX0_leadsOn_2 9 rfl rfl)
theorem dX0_leadsOn_58 : decode cX0_leadsOn 58 = .ok (.ifCond .eq 15, 3) := dk_153 0 15 (dk_at dksX0_leadsOn_2 10 rfl rfl)
theorem dX0_leadsOn_61 : decode cX0_leadsOn 61 = .ok (.aload_n 0, 1) := dk_42 (dk_at dksX0_leadsOn_2 13 rfl rfl)
theorem dX0_leadsOn_62 : decode cX0_leadsOn 62 = .ok (.iload 4, 2) := dk_21 4 (dk_at dksX0_leadsOn_2 14 rfl rfl)
theorem dX0_leadsOn_64 : decode cX0_leadsOn 64 = .ok (.invokevirtual 266, 3) := dk_182 1 10 (dk_at dksX0_leadsOn_2 16 rfl rfl)
theorem dX0_leadsOn_67 : decode cX0_leadsOn 67 = .ok (.getfield 273, 3) := dk_180 1 17 (dk_at dksX0_leadsOn_2 19 rfl rfl)
theorem dX0_leadsOn_70 : decode cX0_leadsOn 70 = .ok (.goto 12, 3) := dk_167 0 12 (dk_at dksX0_leadsOn_3 0 rfl rfl)
theorem dX0_leadsOn_73 : decode cX0_leadsOn 73 = .ok (.aload_n 0, 1) := dk_42 (dk_at dksX0_leadsOn_3 3 rfl rfl)
theorem dX0_leadsOn_74 : decode cX0_leadsOn 74 = .ok (.iload 4, 2) := dk_21 4 (dk_at dksX0_leadsOn_3 4 rfl rfl)
theorem dX0_leadsOn_76 : decode cX0_leadsOn 76 = .ok (.invokevirtual 266, 3) := dk_182 1 10 (dk_at dksX0_leadsOn_3 6 rfl rfl)
theorem dX0_leadsOn_79 : decode cX0_leadsOn 79 = .ok (.getfield 270, 3) := dk_180 1 14 (dk_at dksX0_leadsOn_3 9 rfl rfl)
theorem dX0_leadsOn_82 : decode cX0_leadsOn 82 = .ok (.istore 5, 2) := dk_54 5 (dk_at dksX0_leadsOn_3 12 rfl rfl)
theorem dX0_leadsOn_84 : decode cX0_leadsOn 84 = .ok (.aload_n 0, 1) := dk_42 (dk_at dksX0_leadsOn_3 14 rfl rfl)
theorem dX0_leadsOn_85 : decode cX0_leadsOn 85 = .ok (.getfield 90, 3) := dk_180 0 90 (dk_at dksX0_leadsOn_3 15 rfl rfl)
theorem dX0_leadsOn_88 : decode cX0_leadsOn 88 = .ok (.iload 4, 2) := dk_21 4 (dk_at dksX0_leadsOn_3 18 rfl rfl)
theorem dX0_leadsOn_90 : decode cX0_leadsOn 90 = .ok (.baload, 1) := dk_51 (dk_at dksX0_leadsOn_3 20 rfl rfl)
theorem dX0_leadsOn_91 : decode cX0_leadsOn 91 = .ok (.ifCond .eq 15, 3) := dk_153 0 15 (dk_at dksX0_leadsOn_3 21 rfl rfl)
theorem dX0_leadsOn_94 : decode cX0_leadsOn 94 = .ok (.aload_n 0, 1) := dk_42 (dk_at dksX0_leadsOn_4 0 rfl rfl)
theorem dX0_leadsOn_95 : decode cX0_leadsOn 95 = .ok (.iload 4, 2) := dk_21 4 (dk_at dksX0_leadsOn_4 1 rfl rfl)
theorem dX0_leadsOn_97 : decode cX0_leadsOn 97 = .ok (.invokevirtual 266, 3) := dk_182 1 10 (dk_at dksX0_leadsOn_4 3 rfl rfl)
theorem dX0_leadsOn_100 : decode cX0_leadsOn 100 = .ok (.getfield 270, 3) := dk_180 1 14 (dk_at dksX0_leadsOn_4 6 rfl rfl)
theorem dX0_leadsOn_103 : decode cX0_leadsOn 103 = .ok (.goto 12, 3) := dk_167 0 12 (dk_at dksX0_leadsOn_4 9 rfl rfl)
theorem dX0_leadsOn_106 : decode cX0_leadsOn 106 = .ok (.aload_n 0, 1) := dk_42 (dk_at dksX0_leadsOn_4 12 rfl rfl)
theorem dX0_leadsOn_107 : decode cX0_leadsOn 107 = .ok (.iload 4, 2) := dk_21 4 (dk_at dksX0_leadsOn_4 13 rfl rfl)
theorem dX0_leadsOn_109 : decode cX0_leadsOn 109 = .ok (.invokevirtual 266, 3) := dk_182 1 10 (dk_at dksX0_leadsOn_4 15 rfl rfl)
theorem dX0_leadsOn_112 : decode cX0_leadsOn 112 = .ok (.getfield 273, 3) := dk_180 1 17 (dk_at dksX0_leadsOn_4 18 rfl rfl)
theorem dX0_leadsOn_115 : decode cX0_leadsOn 115 = .ok (.istore 6, 2) := dk_54 6 (dk_at dksX0_leadsOn_4 21 rfl rfl)
theorem dX0_leadsOn_117 : decode cX0_leadsOn 117 = .ok (.aload_n 0, 1) := dk_42 (dk_at dksX0_leadsOn_4 23 rfl rfl)
theorem dX0_leadsOn_118 : decode cX0_leadsOn 118 = .ok (.getfield 74, 3) := dk_180 0 74 (dk_at dksX0_leadsOn_5 0 rfl rfl)
theorem dX0_leadsOn_121 : decode cX0_leadsOn 121 = .ok (.getfield 225, 3) := dk_180 0 225 (dk_at dksX0_leadsOn_5 3 rfl rfl)
theorem dX0_leadsOn_124 : decode cX0_leadsOn 124 = .ok (.iload 4, 2) := dk_21 4 (dk_at dksX0_leadsOn_5 6 rfl rfl)
theorem dX0_leadsOn_126 : decode cX0_leadsOn 126 = .ok (.invokestatic 276, 3) := dk_184 1 20 (dk_at dksX0_leadsOn_5 8 rfl rfl)
theorem dX0_leadsOn_129 : decode cX0_leadsOn 129 = .ok (.ifCond .eq 51, 3) := dk_153 0 51 (dk_at dksX0_leadsOn_5 11 rfl rfl)
theorem dX0_leadsOn_132 : decode cX0_leadsOn 132 = .ok (.iload 6, 2) := dk_21 6 (dk_at dksX0_leadsOn_5 14 rfl rfl)
theorem dX0_leadsOn_134 : decode cX0_leadsOn 134 = .ok (.iload_n 1, 1) := dk_27 (dk_at dksX0_leadsOn_5 16 rfl rfl)
theorem dX0_leadsOn_135 : decode cX0_leadsOn 135 = .ok (.if_icmp .eq 45, 3) := dk_159 0 45 (dk_at dksX0_leadsOn_5 17 rfl rfl)
theorem dX0_leadsOn_138 : decode cX0_leadsOn 138 = .ok (.aload_n 0, 1) := dk_42 (dk_at dksX0_leadsOn_5 20 rfl rfl)
theorem dX0_leadsOn_139 : decode cX0_leadsOn 139 = .ok (.getfield 94, 3) := dk_180 0 94 (dk_at dksX0_leadsOn_5 21 rfl rfl)
theorem dX0_leadsOn_142 : decode cX0_leadsOn 142 = .ok (.iload 6, 2) := dk_21 6 (dk_at dksX0_leadsOn_6 0 rfl rfl)
theorem dX0_leadsOn_144 : decode cX0_leadsOn 144 = .ok (.iaload, 1) := dk_46 (dk_at dksX0_leadsOn_6 2 rfl rfl)
theorem dX0_leadsOn_145 : decode cX0_leadsOn 145 = .ok (.iconst (-1), 1) := dk_2 (dk_at dksX0_leadsOn_6 3 rfl rfl)
theorem dX0_leadsOn_146 : decode cX0_leadsOn 146 = .ok (.if_icmp .ne 34, 3) := dk_160 0 34 (dk_at dksX0_leadsOn_6 4 rfl rfl)
theorem dX0_leadsOn_149 : decode cX0_leadsOn 149 = .ok (.iload 5, 2) := dk_21 5 (dk_at dksX0_leadsOn_6 7 rfl rfl)
theorem dX0_leadsOn_151 : decode cX0_leadsOn 151 = .ok (.iload_n 1, 1) := dk_27 (dk_at dksX0_leadsOn_6 9 rfl rfl)
theorem dX0_leadsOn_152 : decode cX0_leadsOn 152 = .ok (.if_icmp .eq 17, 3) := dk_159 0 17 (dk_at dksX0_leadsOn_6 10 rfl rfl)
theorem dX0_leadsOn_155 : decode cX0_leadsOn 155 = .ok (.aload_n 0, 1) := dk_42 (dk_at dksX0_leadsOn_6 13 rfl rfl)
theorem dX0_leadsOn_156 : decode cX0_leadsOn 156 = .ok (.getfield 94, 3) := dk_180 0 94 (dk_at dksX0_leadsOn_6 14 rfl rfl)
theorem dX0_leadsOn_159 : decode cX0_leadsOn 159 = .ok (.iload 5, 2) := dk_21 5 (dk_at dksX0_leadsOn_6 17 rfl rfl)
theorem dX0_leadsOn_161 : decode cX0_leadsOn 161 = .ok (.iaload, 1) := dk_46 (dk_at dksX0_leadsOn_6 19 rfl rfl)
theorem dX0_leadsOn_162 : decode cX0_leadsOn 162 = .ok (.iconst (-1), 1) := dk_2 (dk_at dksX0_leadsOn_6 20 rfl rfl)
theorem dX0_leadsOn_163 : decode cX0_leadsOn 163 = .ok (.if_icmp .ne 6, 3) := dk_160 0 6 (dk_at dksX0_leadsOn_6 21 rfl rfl)
theorem dX0_leadsOn_166 : decode cX0_leadsOn 166 = .ok (.goto 14, 3) := dk_167 0 14 (dk_at dksX0_leadsOn_7 0 rfl rfl)
theorem dX0_leadsOn_169 : decode cX0_leadsOn 169 = .ok (.aload_n 0, 1) := dk_42 (dk_at dksX0_leadsOn_7 3 rfl rfl)
theorem dX0_leadsOn_170 : decode cX0_leadsOn 170 = .ok (.getfield 94, 3) := dk_180 0 94 (dk_at dksX0_leadsOn_7 4 rfl rfl)
theorem dX0_leadsOn_173 : decode cX0_leadsOn 173 = .ok (.iload 6, 2) := dk_21 6 (dk_at dksX0_leadsOn_7 7 rfl rfl)
theorem dX0_leadsOn_175 : decode cX0_leadsOn 175 = .ok (.iload 4, 2) := dk_21 4 (dk_at dksX0_leadsOn_7 9 rfl rfl)
theorem dX0_leadsOn_177 : decode cX0_leadsOn 177 = .ok (.iastore, 1) := dk_79 (dk_at dksX0_leadsOn_7 11 rfl rfl)
theorem dX0_leadsOn_178 : decode cX0_leadsOn 178 = .ok (.iconst 1, 1) := dk_4 (dk_at dksX0_leadsOn_7 12 rfl rfl)
theorem dX0_leadsOn_179 : decode cX0_leadsOn 179 = .ok (.istore_n 3, 1) := dk_62 (dk_at dksX0_leadsOn_7 13 rfl rfl)
theorem dX0_leadsOn_180 : decode cX0_leadsOn 180 = .ok (.iinc 4 1, 3) := dk_132 4 1 (dk_at dksX0_leadsOn_7 14 rfl rfl)
theorem dX0_leadsOn_183 : decode cX0_leadsOn 183 = .ok (.goto (-141), 3) := dk_167 255 115 (dk_at dksX0_leadsOn_7 17 rfl rfl)
theorem dX0_leadsOn_186 : decode cX0_leadsOn 186 = .ok (.goto (-163), 3) := dk_167 255 93 (dk_at dksX0_leadsOn_7 20 rfl rfl)
theorem dX0_leadsOn_189 : decode cX0_leadsOn 189 = .ok (.aload_n 0, 1) := dk_42 (dk_at dksX0_leadsOn_7 23 rfl rfl)
theorem dX0_leadsOn_190 : decode cX0_leadsOn 190 = .ok (.getfield 94, 3) := dk_180 0 94 (dk_at dksX0_leadsOn_8 0 rfl rfl)
theorem dX0_leadsOn_193 : decode cX0_leadsOn 193 = .ok (.iload_n 2, 1) := dk_28 (dk_at dksX0_leadsOn_8 3 rfl rfl)
theorem dX0_leadsOn_194 : decode cX0_leadsOn 194 = .ok (.iaload, 1) := dk_46 (dk_at dksX0_leadsOn_8 4 rfl rfl)
theorem dX0_leadsOn_195 : decode cX0_leadsOn 195 = .ok (.iconst (-1), 1) := dk_2 (dk_at dksX0_leadsOn_8 5 rfl rfl)
theorem dX0_leadsOn_196 : decode cX0_leadsOn 196 = .ok (.if_icmp .eq 7, 3) := dk_159 0 7 (dk_at dksX0_leadsOn_8 6 rfl rfl)
theorem dX0_leadsOn_199 : decode cX0_leadsOn 199 = .ok (.iconst 1, 1) := dk_4 (dk_at dksX0_leadsOn_8 9 rfl rfl)
theorem dX0_leadsOn_200 : decode cX0_leadsOn 200 = .ok (.goto 4, 3) := dk_167 0 4 (dk_at dksX0_leadsOn_8 10 rfl rfl)
theorem dX0_leadsOn_203 : decode cX0_leadsOn 203 = .ok (.iconst 0, 1) := dk_3 (dk_at dksX0_leadsOn_8 13 rfl rfl)
theorem dX0_leadsOn_204 : decode cX0_leadsOn 204 = .ok (.ireturn, 1) := dk_172 (dk_at dksX0_leadsOn_8 14 rfl rfl)
abbrev cX0_uses : ByteArray := prog_1_method_43_code
def yX0_uses : MethodName := ⟨RX0, "uses", "(II)V"⟩
def dkwX0_uses_3 : List UInt8 := [167, 255, 189, 177]
abbrev dktX0_uses_3 : List UInt8 := dkwX0_uses_3 ++ []
def dkwX0_uses_2 : List UInt8 := [62, 42, 180, 0, 90, 21, 4, 42, 180, 0, 90, 21, 4, 51, 154, 0, 7, 4, 167, 0, 4, 3, 84]
abbrev dktX0_uses_2 : List UInt8 := dkwX0_uses_2 ++ dktX0_uses_3
def dkwX0_uses_1 : List UInt8 := [153, 0, 15, 42, 21, 4, 182, 1, 10, 180, 1, 17, 167, 0, 12, 42, 21, 4, 182, 1, 10, 180, 1, 14]
abbrev dktX0_uses_1 : List UInt8 := dkwX0_uses_1 ++ dktX0_uses_2
def dkwX0_uses_0 : List UInt8 := [28, 62, 29, 27, 159, 0, 68, 42, 180, 0, 94, 29, 46, 54, 4, 42, 180, 0, 90, 21, 4, 51]
abbrev dktX0_uses_0 : List UInt8 := dkwX0_uses_0 ++ dktX0_uses_1
theorem dksX0_uses_0 : cX0_uses.data.toList.drop 0 = dktX0_uses_0 := by decide +kernel
theorem dksX0_uses_1 : cX0_uses.data.toList.drop 22 = dktX0_uses_1 := dk_seg dksX0_uses_0 22 rfl rfl
theorem dksX0_uses_2 : cX0_uses.data.toList.drop 46 = dktX0_uses_2 := dk_seg dksX0_uses_1 24 rfl rfl
theorem dksX0_uses_3 : cX0_uses.data.toList.drop 69 = dktX0_uses_3 := dk_seg dksX0_uses_2 23 rfl rfl
theorem dX0_uses_0 : decode cX0_uses 0 = .ok (.iload_n 2, 1) := dk_28 (dk_at dksX0_uses_0 0 rfl rfl)
theorem dX0_uses_1 : decode cX0_uses 1 = .ok (.istore_n 3, 1) := dk_62 (dk_at dksX0_uses_0 1 rfl rfl)
theorem dX0_uses_2 : decode cX0_uses 2 = .ok (.iload_n 3, 1) := dk_29 (dk_at dksX0_uses_0 2 rfl rfl)
theorem dX0_uses_3 : decode cX0_uses 3 = .ok (.iload_n 1, 1) := dk_27 (dk_at dksX0_uses_0 3 rfl rfl)
theorem dX0_uses_4 : decode cX0_uses 4 = .ok (.if_icmp .eq 68, 3) := dk_159 0 68 (dk_at dksX0_uses_0 4 rfl rfl)
theorem dX0_uses_7 : decode cX0_uses 7 = .ok (.aload_n 0, 1) := dk_42 (dk_at dksX0_uses_0 7 rfl rfl)
theorem dX0_uses_8 : decode cX0_uses 8 = .ok (.getfield 94, 3) := dk_180 0 94 (dk_at dksX0_uses_0 8 rfl rfl)
theorem dX0_uses_11 : decode cX0_uses 11 = .ok (.iload_n 3, 1) := dk_29 (dk_at dksX0_uses_0 11 rfl rfl)
theorem dX0_uses_12 : decode cX0_uses 12 = .ok (.iaload, 1) := dk_46 (dk_at dksX0_uses_0 12 rfl rfl)
theorem dX0_uses_13 : decode cX0_uses 13 = .ok (.istore 4, 2) := dk_54 4 (dk_at dksX0_uses_0 13 rfl rfl)
theorem dX0_uses_15 : decode cX0_uses 15 = .ok (.aload_n 0, 1) := dk_42 (dk_at dksX0_uses_0 15 rfl rfl)
theorem dX0_uses_16 : decode cX0_uses 16 = .ok (.getfield 90, 3) := dk_180 0 90 (dk_at dksX0_uses_0 16 rfl rfl)
theorem dX0_uses_19 : decode cX0_uses 19 = .ok (.iload 4, 2) := dk_21 4 (dk_at dksX0_uses_0 19 rfl rfl)
theorem dX0_uses_21 : decode cX0_uses 21 = .ok (.baload, 1) := dk_51 (dk_at dksX0_uses_0 21 rfl rfl)
theorem dX0_uses_22 : decode cX0_uses 22 = .ok (.ifCond .eq 15, 3) := dk_153 0 15 (dk_at dksX0_uses_1 0 rfl rfl)
theorem dX0_uses_25 : decode cX0_uses 25 = .ok (.aload_n 0, 1) := dk_42 (dk_at dksX0_uses_1 3 rfl rfl)
theorem dX0_uses_26 : decode cX0_uses 26 = .ok (.iload 4, 2) := dk_21 4 (dk_at dksX0_uses_1 4 rfl rfl)
theorem dX0_uses_28 : decode cX0_uses 28 = .ok (.invokevirtual 266, 3) := dk_182 1 10 (dk_at dksX0_uses_1 6 rfl rfl)
theorem dX0_uses_31 : decode cX0_uses 31 = .ok (.getfield 273, 3) := dk_180 1 17 (dk_at dksX0_uses_1 9 rfl rfl)
theorem dX0_uses_34 : decode cX0_uses 34 = .ok (.goto 12, 3) := dk_167 0 12 (dk_at dksX0_uses_1 12 rfl rfl)
theorem dX0_uses_37 : decode cX0_uses 37 = .ok (.aload_n 0, 1) := dk_42 (dk_at dksX0_uses_1 15 rfl rfl)
theorem dX0_uses_38 : decode cX0_uses 38 = .ok (.iload 4, 2) := dk_21 4 (dk_at dksX0_uses_1 16 rfl rfl)
theorem dX0_uses_40 : decode cX0_uses 40 = .ok (.invokevirtual 266, 3) := dk_182 1 10 (dk_at dksX0_uses_1 18 rfl rfl)
theorem dX0_uses_43 : decode cX0_uses 43 = .ok (.getfield 270, 3) := dk_180 1 14 (dk_at dksX0_uses_1 21 rfl rfl)
theorem dX0_uses_46 : decode cX0_uses 46 = .ok (.istore_n 3, 1) := dk_62 (dk_at dksX0_uses_2 0 rfl rfl)
theorem dX0_uses_47 : decode cX0_uses 47 = .ok (.aload_n 0, 1) := dk_42 (dk_at dksX0_uses_2 1 rfl rfl)
theorem dX0_uses_48 : decode cX0_uses 48 = .ok (.getfield 90, 3) := dk_180 0 90 (dk_at dksX0_uses_2 2 rfl rfl)
theorem dX0_uses_51 : decode cX0_uses 51 = .ok (.iload 4, 2) := dk_21 4 (dk_at dksX0_uses_2 5 rfl rfl)
theorem dX0_uses_53 : decode cX0_uses 53 = .ok (.aload_n 0, 1) := dk_42 (dk_at dksX0_uses_2 7 rfl rfl)
theorem dX0_uses_54 : decode cX0_uses 54 = .ok (.getfield 90, 3) := dk_180 0 90 (dk_at dksX0_uses_2 8 rfl rfl)
theorem dX0_uses_57 : decode cX0_uses 57 = .ok (.iload 4, 2) := dk_21 4 (dk_at dksX0_uses_2 11 rfl rfl)
theorem dX0_uses_59 : decode cX0_uses 59 = .ok (.baload, 1) := dk_51 (dk_at dksX0_uses_2 13 rfl rfl)
theorem dX0_uses_60 : decode cX0_uses 60 = .ok (.ifCond .ne 7, 3) := dk_154 0 7 (dk_at dksX0_uses_2 14 rfl rfl)
theorem dX0_uses_63 : decode cX0_uses 63 = .ok (.iconst 1, 1) := dk_4 (dk_at dksX0_uses_2 17 rfl rfl)
theorem dX0_uses_64 : decode cX0_uses 64 = .ok (.goto 4, 3) := dk_167 0 4 (dk_at dksX0_uses_2 18 rfl rfl)
theorem dX0_uses_67 : decode cX0_uses 67 = .ok (.iconst 0, 1) := dk_3 (dk_at dksX0_uses_2 21 rfl rfl)
theorem dX0_uses_68 : decode cX0_uses 68 = .ok (.bastore, 1) := dk_84 (dk_at dksX0_uses_2 22 rfl rfl)
theorem dX0_uses_69 : decode cX0_uses 69 = .ok (.goto (-67), 3) := dk_167 255 189 (dk_at dksX0_uses_3 0 rfl rfl)
theorem dX0_uses_72 : decode cX0_uses 72 = .ok (.return_, 1) := dk_177 (dk_at dksX0_uses_3 3 rfl rfl)
abbrev cX0_rings : ByteArray := prog_1_method_45_code
def yX0_rings : MethodName := ⟨RX0, "rings", "()I"⟩
def dkwX0_rings_3 : List UInt8 := [167, 255, 200, 132, 2, 1, 167, 255, 184, 27, 172]
abbrev dktX0_rings_3 : List UInt8 := dkwX0_rings_3 ++ []
def dkwX0_rings_2 : List UInt8 := [182, 1, 24, 28, 184, 1, 20, 153, 0, 9, 4, 28, 120, 167, 0, 4, 3, 128, 60, 132, 3, 1]
abbrev dktX0_rings_2 : List UInt8 := dkwX0_rings_2 ++ dktX0_rings_3
def dkwX0_rings_1 : List UInt8 := [29, 159, 0, 39, 42, 180, 0, 74, 28, 182, 1, 24, 29, 184, 1, 20, 153, 0, 24, 42, 180, 0, 74, 29]
abbrev dktX0_rings_1 : List UInt8 := dkwX0_rings_1 ++ dktX0_rings_2
def dkwX0_rings_0 : List UInt8 := [3, 60, 3, 61, 28, 42, 182, 0, 181, 162, 0, 70, 3, 62, 29, 42, 182, 0, 181, 162, 0, 54, 27, 28]
abbrev dktX0_rings_0 : List UInt8 := dkwX0_rings_0 ++ dktX0_rings_1
theorem dksX0_rings_0 : cX0_rings.data.toList.drop 0 = dktX0_rings_0 := by decide +kernel
theorem dksX0_rings_1 : cX0_rings.data.toList.drop 24 = dktX0_rings_1 := dk_seg dksX0_rings_0 24 rfl rfl
theorem dksX0_rings_2 : cX0_rings.data.toList.drop 48 = dktX0_rings_2 := dk_seg dksX0_rings_1 24 rfl rfl
theorem dksX0_rings_3 : cX0_rings.data.toList.drop 70 = dktX0_rings_3 := dk_seg dksX0_rings_2 22 rfl rfl
theorem dX0_rings_0 : decode cX0_rings 0 = .ok (.iconst 0, 1) := dk_3 (dk_at dksX0_rings_0 0 rfl rfl)
theorem dX0_rings_1 : decode cX0_rings 1 = .ok (.istore_n 1, 1) := dk_60 (dk_at dksX0_rings_0 1 rfl rfl)
theorem dX0_rings_2 : decode cX0_rings 2 = .ok (.iconst 0, 1) := dk_3 (dk_at dksX0_rings_0 2 rfl rfl)
theorem dX0_rings_3 : decode cX0_rings 3 = .ok (.istore_n 2, 1) := dk_61 (dk_at dksX0_rings_0 3 rfl rfl)
theorem dX0_rings_4 : decode cX0_rings 4 = .ok (.iload_n 2, 1) := dk_28 (dk_at dksX0_rings_0 4 rfl rfl)
theorem dX0_rings_5 : decode cX0_rings 5 = .ok (.aload_n 0, 1) := dk_42 (dk_at dksX0_rings_0 5 rfl rfl)
theorem dX0_rings_6 : decode cX0_rings 6 = .ok (.invokevirtual 181, 3) := dk_182 0 181 (dk_at dksX0_rings_0 6 rfl rfl)
theorem dX0_rings_9 : decode cX0_rings 9 = .ok (.if_icmp .ge 70, 3) := dk_162 0 70 (dk_at dksX0_rings_0 9 rfl rfl)
theorem dX0_rings_12 : decode cX0_rings 12 = .ok (.iconst 0, 1) := dk_3 (dk_at dksX0_rings_0 12 rfl rfl)
theorem dX0_rings_13 : decode cX0_rings 13 = .ok (.istore_n 3, 1) := dk_62 (dk_at dksX0_rings_0 13 rfl rfl)
theorem dX0_rings_14 : decode cX0_rings 14 = .ok (.iload_n 3, 1) := dk_29 (dk_at dksX0_rings_0 14 rfl rfl)
theorem dX0_rings_15 : decode cX0_rings 15 = .ok (.aload_n 0, 1) := dk_42 (dk_at dksX0_rings_0 15 rfl rfl)
theorem dX0_rings_16 : decode cX0_rings 16 = .ok (.invokevirtual 181, 3) := dk_182 0 181 (dk_at dksX0_rings_0 16 rfl rfl)
theorem dX0_rings_19 : decode cX0_rings 19 = .ok (.if_icmp .ge 54, 3) := dk_162 0 54 (dk_at dksX0_rings_0 19 rfl rfl)
theorem dX0_rings_22 : decode cX0_rings 22 = .ok (.iload_n 1, 1) := dk_27 (dk_at dksX0_rings_0 22 rfl rfl)
theorem dX0_rings_23 : decode cX0_rings 23 = .ok (.iload_n 2, 1) := dk_28 (dk_at dksX0_rings_0 23 rfl rfl)
theorem dX0_rings_24 : decode cX0_rings 24 = .ok (.iload_n 3, 1) := dk_29 (dk_at dksX0_rings_1 0 rfl rfl)
theorem dX0_rings_25 : decode cX0_rings 25 = .ok (.if_icmp .eq 39, 3) := dk_159 0 39 (dk_at dksX0_rings_1 1 rfl rfl)
theorem dX0_rings_28 : decode cX0_rings 28 = .ok (.aload_n 0, 1) := dk_42 (dk_at dksX0_rings_1 4 rfl rfl)
theorem dX0_rings_29 : decode cX0_rings 29 = .ok (.getfield 74, 3) := dk_180 0 74 (dk_at dksX0_rings_1 5 rfl rfl)
theorem dX0_rings_32 : decode cX0_rings 32 = .ok (.iload_n 2, 1) := dk_28 (dk_at dksX0_rings_1 8 rfl rfl)
theorem dX0_rings_33 : decode cX0_rings 33 = .ok (.invokevirtual 280, 3) := dk_182 1 24 (dk_at dksX0_rings_1 9 rfl rfl)
theorem dX0_rings_36 : decode cX0_rings 36 = .ok (.iload_n 3, 1) := dk_29 (dk_at dksX0_rings_1 12 rfl rfl)
theorem dX0_rings_37 : decode cX0_rings 37 = .ok (.invokestatic 276, 3) := dk_184 1 20 (dk_at dksX0_rings_1 13 rfl rfl)
theorem dX0_rings_40 : decode cX0_rings 40 = .ok (.ifCond .eq 24, 3) := dk_153 0 24 (dk_at dksX0_rings_1 16 rfl rfl)
theorem dX0_rings_43 : decode cX0_rings 43 = .ok (.aload_n 0, 1) := dk_42 (dk_at dksX0_rings_1 19 rfl rfl)
theorem dX0_rings_44 : decode cX0_rings 44 = .ok (.getfield 74, 3) := dk_180 0 74 (dk_at dksX0_rings_1 20 rfl rfl)
theorem dX0_rings_47 : decode cX0_rings 47 = .ok (.iload_n 3, 1) := dk_29 (dk_at dksX0_rings_1 23 rfl rfl)
theorem dX0_rings_48 : decode cX0_rings 48 = .ok (.invokevirtual 280, 3) := dk_182 1 24 (dk_at dksX0_rings_2 0 rfl rfl)
theorem dX0_rings_51 : decode cX0_rings 51 = .ok (.iload_n 2, 1) := dk_28 (dk_at dksX0_rings_2 3 rfl rfl)
theorem dX0_rings_52 : decode cX0_rings 52 = .ok (.invokestatic 276, 3) := dk_184 1 20 (dk_at dksX0_rings_2 4 rfl rfl)
theorem dX0_rings_55 : decode cX0_rings 55 = .ok (.ifCond .eq 9, 3) := dk_153 0 9 (dk_at dksX0_rings_2 7 rfl rfl)
theorem dX0_rings_58 : decode cX0_rings 58 = .ok (.iconst 1, 1) := dk_4 (dk_at dksX0_rings_2 10 rfl rfl)
theorem dX0_rings_59 : decode cX0_rings 59 = .ok (.iload_n 2, 1) := dk_28 (dk_at dksX0_rings_2 11 rfl rfl)
theorem dX0_rings_60 : decode cX0_rings 60 = .ok (.ishl, 1) := dk_120 (dk_at dksX0_rings_2 12 rfl rfl)
theorem dX0_rings_61 : decode cX0_rings 61 = .ok (.goto 4, 3) := dk_167 0 4 (dk_at dksX0_rings_2 13 rfl rfl)
theorem dX0_rings_64 : decode cX0_rings 64 = .ok (.iconst 0, 1) := dk_3 (dk_at dksX0_rings_2 16 rfl rfl)
theorem dX0_rings_65 : decode cX0_rings 65 = .ok (.ior, 1) := dk_128 (dk_at dksX0_rings_2 17 rfl rfl)
theorem dX0_rings_66 : decode cX0_rings 66 = .ok (.istore_n 1, 1) := dk_60 (dk_at dksX0_rings_2 18 rfl rfl)
theorem dX0_rings_67 : decode cX0_rings 67 = .ok (.iinc 3 1, 3) := dk_132 3 1 (dk_at dksX0_rings_2 19 rfl rfl)
theorem dX0_rings_70 : decode cX0_rings 70 = .ok (.goto (-56), 3) := dk_167 255 200 (dk_at dksX0_rings_3 0 rfl rfl)
theorem dX0_rings_73 : decode cX0_rings 73 = .ok (.iinc 2 1, 3) := dk_132 2 1 (dk_at dksX0_rings_3 3 rfl rfl)
theorem dX0_rings_76 : decode cX0_rings 76 = .ok (.goto (-72), 3) := dk_167 255 184 (dk_at dksX0_rings_3 6 rfl rfl)
theorem dX0_rings_79 : decode cX0_rings 79 = .ok (.iload_n 1, 1) := dk_27 (dk_at dksX0_rings_3 9 rfl rfl)
theorem dX0_rings_80 : decode cX0_rings 80 = .ok (.ireturn, 1) := dk_172 (dk_at dksX0_rings_3 10 rfl rfl)
abbrev cX0_lightings : ByteArray := prog_1_method_46_code
def yX0_lightings : MethodName := ⟨RX0, "lightings", "(I)I"⟩
def dkwX0_lightings_4 : List UInt8 := [172]
abbrev dktX0_lightings_4 : List UInt8 := dkwX0_lightings_4 ++ []
def dkwX0_lightings_3 : List UInt8 := [120, 167, 0, 4, 3, 128, 54, 4, 132, 5, 1, 167, 255, 218, 21, 4, 61, 132, 3, 1, 167, 255, 187, 2]
abbrev dktX0_lightings_3 : List UInt8 := dkwX0_lightings_3 ++ dktX0_lightings_4
def dkwX0_lightings_2 : List UInt8 := [182, 0, 181, 162, 0, 35, 21, 4, 42, 180, 0, 74, 21, 5, 28, 182, 1, 77, 153, 0, 10, 4, 21, 5]
abbrev dktX0_lightings_2 : List UInt8 := dkwX0_lightings_2 ++ dktX0_lightings_3
def dkwX0_lightings_1 : List UInt8 := [163, 0, 69, 28, 27, 184, 1, 20, 153, 0, 5, 29, 172, 28, 54, 4, 3, 54, 5, 21, 5, 42]
abbrev dktX0_lightings_1 : List UInt8 := dkwX0_lightings_1 ++ dktX0_lightings_2
def dkwX0_lightings_0 : List UInt8 := [42, 27, 182, 0, 240, 154, 0, 5, 2, 172, 42, 180, 0, 74, 182, 0, 217, 61, 3, 62, 29, 16, 8]
abbrev dktX0_lightings_0 : List UInt8 := dkwX0_lightings_0 ++ dktX0_lightings_1
theorem dksX0_lightings_0 : cX0_lightings.data.toList.drop 0 = dktX0_lightings_0 := by decide +kernel
theorem dksX0_lightings_1 : cX0_lightings.data.toList.drop 23 = dktX0_lightings_1 := dk_seg dksX0_lightings_0 23 rfl rfl
theorem dksX0_lightings_2 : cX0_lightings.data.toList.drop 45 = dktX0_lightings_2 := dk_seg dksX0_lightings_1 22 rfl rfl
theorem dksX0_lightings_3 : cX0_lightings.data.toList.drop 69 = dktX0_lightings_3 := dk_seg dksX0_lightings_2 24 rfl rfl
theorem dksX0_lightings_4 : cX0_lightings.data.toList.drop 93 = dktX0_lightings_4 := dk_seg dksX0_lightings_3 24 rfl rfl
theorem dX0_lightings_0 : decode cX0_lightings 0 = .ok (.aload_n 0, 1) := dk_42 (dk_at dksX0_lightings_0 0 rfl rfl)
theorem dX0_lightings_1 : decode cX0_lightings 1 = .ok (.iload_n 1, 1) := dk_27 (dk_at dksX0_lightings_0 1 rfl rfl)
theorem dX0_lightings_2 : decode cX0_lightings 2 = .ok (.invokevirtual 240, 3) := dk_182 0 240 (dk_at dksX0_lightings_0 2 rfl rfl)
theorem dX0_lightings_5 : decode cX0_lightings 5 = .ok (.ifCond .ne 5, 3) := dk_154 0 5 (dk_at dksX0_lightings_0 5 rfl rfl)
theorem dX0_lightings_8 : decode cX0_lightings 8 = .ok (.iconst (-1), 1) := dk_2 (dk_at dksX0_lightings_0 8 rfl rfl)
theorem dX0_lightings_9 : decode cX0_lightings 9 = .ok (.ireturn, 1) := dk_172 (dk_at dksX0_lightings_0 9 rfl rfl)
theorem dX0_lightings_10 : decode cX0_lightings 10 = .ok (.aload_n 0, 1) := dk_42 (dk_at dksX0_lightings_0 10 rfl rfl)
theorem dX0_lightings_11 : decode cX0_lightings 11 = .ok (.getfield 74, 3) := dk_180 0 74 (dk_at dksX0_lightings_0 11 rfl rfl)
theorem dX0_lightings_14 : decode cX0_lightings 14 = .ok (.invokevirtual 217, 3) := dk_182 0 217 (dk_at dksX0_lightings_0 14 rfl rfl)
theorem dX0_lightings_17 : decode cX0_lightings 17 = .ok (.istore_n 2, 1) := dk_61 (dk_at dksX0_lightings_0 17 rfl rfl)
theorem dX0_lightings_18 : decode cX0_lightings 18 = .ok (.iconst 0, 1) := dk_3 (dk_at dksX0_lightings_0 18 rfl rfl)
theorem dX0_lightings_19 : decode cX0_lightings 19 = .ok (.istore_n 3, 1) := dk_62 (dk_at dksX0_lightings_0 19 rfl rfl)
theorem dX0_lightings_20 : decode cX0_lightings 20 = .ok (.iload_n 3, 1) := dk_29 (dk_at dksX0_lightings_0 20 rfl rfl)
theorem dX0_lightings_21 : decode cX0_lightings 21 = .ok (.bipush 8, 2) := dk_16 8 (dk_at dksX0_lightings_0 21 rfl rfl)
theorem dX0_lightings_23 : decode cX0_lightings 23 = .ok (.if_icmp .gt 69, 3) := dk_163 0 69 (dk_at dksX0_lightings_1 0 rfl rfl)
theorem dX0_lightings_26 : decode cX0_lightings 26 = .ok (.iload_n 2, 1) := dk_28 (dk_at dksX0_lightings_1 3 rfl rfl)
theorem dX0_lightings_27 : decode cX0_lightings 27 = .ok (.iload_n 1, 1) := dk_27 (dk_at dksX0_lightings_1 4 rfl rfl)
theorem dX0_lightings_28 : decode cX0_lightings 28 = .ok (.invokestatic 276, 3) := dk_184 1 20 (dk_at dksX0_lightings_1 5 rfl rfl)
theorem dX0_lightings_31 : decode cX0_lightings 31 = .ok (.ifCond .eq 5, 3) := dk_153 0 5 (dk_at dksX0_lightings_1 8 rfl rfl)
theorem dX0_lightings_34 : decode cX0_lightings 34 = .ok (.iload_n 3, 1) := dk_29 (dk_at dksX0_lightings_1 11 rfl rfl)
theorem dX0_lightings_35 : decode cX0_lightings 35 = .ok (.ireturn, 1) := dk_172 (dk_at dksX0_lightings_1 12 rfl rfl)
theorem dX0_lightings_36 : decode cX0_lightings 36 = .ok (.iload_n 2, 1) := dk_28 (dk_at dksX0_lightings_1 13 rfl rfl)
theorem dX0_lightings_37 : decode cX0_lightings 37 = .ok (.istore 4, 2) := dk_54 4 (dk_at dksX0_lightings_1 14 rfl rfl)
theorem dX0_lightings_39 : decode cX0_lightings 39 = .ok (.iconst 0, 1) := dk_3 (dk_at dksX0_lightings_1 16 rfl rfl)
theorem dX0_lightings_40 : decode cX0_lightings 40 = .ok (.istore 5, 2) := dk_54 5 (dk_at dksX0_lightings_1 17 rfl rfl)
theorem dX0_lightings_42 : decode cX0_lightings 42 = .ok (.iload 5, 2) := dk_21 5 (dk_at dksX0_lightings_1 19 rfl rfl)
theorem dX0_lightings_44 : decode cX0_lightings 44 = .ok (.aload_n 0, 1) := dk_42 (dk_at dksX0_lightings_1 21 rfl rfl)
theorem dX0_lightings_45 : decode cX0_lightings 45 = .ok (.invokevirtual 181, 3) := dk_182 0 181 (dk_at dksX0_lightings_2 0 rfl rfl)
theorem dX0_lightings_48 : decode cX0_lightings 48 = .ok (.if_icmp .ge 35, 3) := dk_162 0 35 (dk_at dksX0_lightings_2 3 rfl rfl)
theorem dX0_lightings_51 : decode cX0_lightings 51 = .ok (.iload 4, 2) := dk_21 4 (dk_at dksX0_lightings_2 6 rfl rfl)
theorem dX0_lightings_53 : decode cX0_lightings 53 = .ok (.aload_n 0, 1) := dk_42 (dk_at dksX0_lightings_2 8 rfl rfl)
theorem dX0_lightings_54 : decode cX0_lightings 54 = .ok (.getfield 74, 3) := dk_180 0 74 (dk_at dksX0_lightings_2 9 rfl rfl)
theorem dX0_lightings_57 : decode cX0_lightings 57 = .ok (.iload 5, 2) := dk_21 5 (dk_at dksX0_lightings_2 12 rfl rfl)
theorem dX0_lightings_59 : decode cX0_lightings 59 = .ok (.iload_n 2, 1) := dk_28 (dk_at dksX0_lightings_2 14 rfl rfl)
theorem dX0_lightings_60 : decode cX0_lightings 60 = .ok (.invokevirtual 333, 3) := dk_182 1 77 (dk_at dksX0_lightings_2 15 rfl rfl)
theorem dX0_lightings_63 : decode cX0_lightings 63 = .ok (.ifCond .eq 10, 3) := dk_153 0 10 (dk_at dksX0_lightings_2 18 rfl rfl)
theorem dX0_lightings_66 : decode cX0_lightings 66 = .ok (.iconst 1, 1) := dk_4 (dk_at dksX0_lightings_2 21 rfl rfl)
theorem dX0_lightings_67 : decode cX0_lightings 67 = .ok (.iload 5, 2) := dk_21 5 (dk_at dksX0_lightings_2 22 rfl rfl)
theorem dX0_lightings_69 : decode cX0_lightings 69 = .ok (.ishl, 1) := dk_120 (dk_at dksX0_lightings_3 0 rfl rfl)
theorem dX0_lightings_70 : decode cX0_lightings 70 = .ok (.goto 4, 3) := dk_167 0 4 (dk_at dksX0_lightings_3 1 rfl rfl)
theorem dX0_lightings_73 : decode cX0_lightings 73 = .ok (.iconst 0, 1) := dk_3 (dk_at dksX0_lightings_3 4 rfl rfl)
theorem dX0_lightings_74 : decode cX0_lightings 74 = .ok (.ior, 1) := dk_128 (dk_at dksX0_lightings_3 5 rfl rfl)
theorem dX0_lightings_75 : decode cX0_lightings 75 = .ok (.istore 4, 2) := dk_54 4 (dk_at dksX0_lightings_3 6 rfl rfl)
theorem dX0_lightings_77 : decode cX0_lightings 77 = .ok (.iinc 5 1, 3) := dk_132 5 1 (dk_at dksX0_lightings_3 8 rfl rfl)
theorem dX0_lightings_80 : decode cX0_lightings 80 = .ok (.goto (-38), 3) := dk_167 255 218 (dk_at dksX0_lightings_3 11 rfl rfl)
theorem dX0_lightings_83 : decode cX0_lightings 83 = .ok (.iload 4, 2) := dk_21 4 (dk_at dksX0_lightings_3 14 rfl rfl)
theorem dX0_lightings_85 : decode cX0_lightings 85 = .ok (.istore_n 2, 1) := dk_61 (dk_at dksX0_lightings_3 16 rfl rfl)
theorem dX0_lightings_86 : decode cX0_lightings 86 = .ok (.iinc 3 1, 3) := dk_132 3 1 (dk_at dksX0_lightings_3 17 rfl rfl)
theorem dX0_lightings_89 : decode cX0_lightings 89 = .ok (.goto (-69), 3) := dk_167 255 187 (dk_at dksX0_lightings_3 20 rfl rfl)
theorem dX0_lightings_92 : decode cX0_lightings 92 = .ok (.iconst (-1), 1) := dk_2 (dk_at dksX0_lightings_3 23 rfl rfl)
theorem dX0_lightings_93 : decode cX0_lightings 93 = .ok (.ireturn, 1) := dk_172 (dk_at dksX0_lightings_4 0 rfl rfl)
abbrev cX0_odds : ByteArray := prog_1_method_47_code
def yX0_odds : MethodName := ⟨RX0, "odds", "(I)I"⟩
def dkwX0_odds_6 : List UInt8 := [42, 180, 0, 31, 180, 1, 80, 96, 61, 132, 3, 1, 167, 255, 197, 28, 172]
abbrev dktX0_odds_6 : List UInt8 := dkwX0_odds_6 ++ []
def dkwX0_odds_5 : List UInt8 := [42, 180, 0, 78, 182, 1, 48, 87, 28, 42, 180, 0, 78, 27, 182, 1, 45, 153, 0, 7, 3, 167, 0, 10]
abbrev dktX0_odds_5 : List UInt8 := dkwX0_odds_5 ++ dktX0_odds_6
def dkwX0_odds_4 : List UInt8 := [62, 29, 42, 182, 0, 181, 162, 0, 57, 42, 180, 0, 78, 42, 180, 0, 74, 182, 1, 38, 29, 182, 1, 83]
abbrev dktX0_odds_4 : List UInt8 := dkwX0_odds_4 ++ dktX0_odds_5
def dkwX0_odds_3 : List UInt8 := [153, 0, 7, 3, 167, 0, 18, 16, 100, 42, 180, 0, 31, 180, 1, 80, 100, 42, 182, 0, 181, 104, 61, 3]
abbrev dktX0_odds_3 : List UInt8 := dkwX0_odds_3 ++ dktX0_odds_4
def dkwX0_odds_2 : List UInt8 := [180, 0, 78, 42, 180, 0, 74, 182, 1, 38, 182, 1, 48, 87, 42, 180, 0, 78, 27, 182, 1, 45]
abbrev dktX0_odds_2 : List UInt8 := dkwX0_odds_2 ++ dktX0_odds_3
def dkwX0_odds_1 : List UInt8 := [182, 1, 35, 154, 0, 5, 2, 172, 27, 2, 160, 0, 11, 16, 100, 42, 182, 0, 181, 104, 172, 42]
abbrev dktX0_odds_1 : List UInt8 := dkwX0_odds_1 ++ dktX0_odds_2
def dkwX0_odds_0 : List UInt8 := [27, 2, 159, 0, 11, 42, 27, 182, 0, 240, 153, 0, 20, 42, 182, 0, 181, 153, 0, 13, 42, 4, 4, 4]
abbrev dktX0_odds_0 : List UInt8 := dkwX0_odds_0 ++ dktX0_odds_1
theorem dksX0_odds_0 : cX0_odds.data.toList.drop 0 = dktX0_odds_0 := by decide +kernel
theorem dksX0_odds_1 : cX0_odds.data.toList.drop 24 = dktX0_odds_1 := dk_seg dksX0_odds_0 24 rfl rfl
theorem dksX0_odds_2 : cX0_odds.data.toList.drop 46 = dktX0_odds_2 := dk_seg dksX0_odds_1 22 rfl rfl
theorem dksX0_odds_3 : cX0_odds.data.toList.drop 68 = dktX0_odds_3 := dk_seg dksX0_odds_2 22 rfl rfl
theorem dksX0_odds_4 : cX0_odds.data.toList.drop 92 = dktX0_odds_4 := dk_seg dksX0_odds_3 24 rfl rfl
theorem dksX0_odds_5 : cX0_odds.data.toList.drop 116 = dktX0_odds_5 := dk_seg dksX0_odds_4 24 rfl rfl
theorem dksX0_odds_6 : cX0_odds.data.toList.drop 140 = dktX0_odds_6 := dk_seg dksX0_odds_5 24 rfl rfl
theorem dX0_odds_0 : decode cX0_odds 0 = .ok (.iload_n 1, 1) := dk_27 (dk_at dksX0_odds_0 0 rfl rfl)
theorem dX0_odds_1 : decode cX0_odds 1 = .ok (.iconst (-1), 1) := dk_2 (dk_at dksX0_odds_0 1 rfl rfl)
theorem dX0_odds_2 : decode cX0_odds 2 = .ok (.if_icmp .eq 11, 3) := dk_159 0 11 (dk_at dksX0_odds_0 2 rfl rfl)
theorem dX0_odds_5 : decode cX0_odds 5 = .ok (.aload_n 0, 1) := dk_42 (dk_at dksX0_odds_0 5 rfl rfl)
theorem dX0_odds_6 : decode cX0_odds 6 = .ok (.iload_n 1, 1) := dk_27 (dk_at dksX0_odds_0 6 rfl rfl)
theorem dX0_odds_7 : decode cX0_odds 7 = .ok (.invokevirtual 240, 3) := dk_182 0 240 (dk_at dksX0_odds_0 7 rfl rfl)
theorem dX0_odds_10 : decode cX0_odds 10 = .ok (.ifCond .eq 20, 3) := dk_153 0 20 (dk_at dksX0_odds_0 10 rfl rfl)
theorem dX0_odds_13 : decode cX0_odds 13 = .ok (.aload_n 0, 1) := dk_42 (dk_at dksX0_odds_0 13 rfl rfl)
theorem dX0_odds_14 : decode cX0_odds 14 = .ok (.invokevirtual 181, 3) := dk_182 0 181 (dk_at dksX0_odds_0 14 rfl rfl)
theorem dX0_odds_17 : decode cX0_odds 17 = .ok (.ifCond .eq 13, 3) := dk_153 0 13 (dk_at dksX0_odds_0 17 rfl rfl)
theorem dX0_odds_20 : decode cX0_odds 20 = .ok (.aload_n 0, 1) := dk_42 (dk_at dksX0_odds_0 20 rfl rfl)
theorem dX0_odds_21 : decode cX0_odds 21 = .ok (.iconst 1, 1) := dk_4 (dk_at dksX0_odds_0 21 rfl rfl)
theorem dX0_odds_22 : decode cX0_odds 22 = .ok (.iconst 1, 1) := dk_4 (dk_at dksX0_odds_0 22 rfl rfl)
theorem dX0_odds_23 : decode cX0_odds 23 = .ok (.iconst 1, 1) := dk_4 (dk_at dksX0_odds_0 23 rfl rfl)
theorem dX0_odds_24 : decode cX0_odds 24 = .ok (.invokevirtual 291, 3) := dk_182 1 35 (dk_at dksX0_odds_1 0 rfl rfl)
theorem dX0_odds_27 : decode cX0_odds 27 = .ok (.ifCond .ne 5, 3) := dk_154 0 5 (dk_at dksX0_odds_1 3 rfl rfl)
theorem dX0_odds_30 : decode cX0_odds 30 = .ok (.iconst (-1), 1) := dk_2 (dk_at dksX0_odds_1 6 rfl rfl)
theorem dX0_odds_31 : decode cX0_odds 31 = .ok (.ireturn, 1) := dk_172 (dk_at dksX0_odds_1 7 rfl rfl)
theorem dX0_odds_32 : decode cX0_odds 32 = .ok (.iload_n 1, 1) := dk_27 (dk_at dksX0_odds_1 8 rfl rfl)
theorem dX0_odds_33 : decode cX0_odds 33 = .ok (.iconst (-1), 1) := dk_2 (dk_at dksX0_odds_1 9 rfl rfl)
theorem dX0_odds_34 : decode cX0_odds 34 = .ok (.if_icmp .ne 11, 3) := dk_160 0 11 (dk_at dksX0_odds_1 10 rfl rfl)
theorem dX0_odds_37 : decode cX0_odds 37 = .ok (.bipush 100, 2) := dk_16 100 (dk_at dksX0_odds_1 13 rfl rfl)
theorem dX0_odds_39 : decode cX0_odds 39 = .ok (.aload_n 0, 1) := dk_42 (dk_at dksX0_odds_1 15 rfl rfl)
theorem dX0_odds_40 : decode cX0_odds 40 = .ok (.invokevirtual 181, 3) := dk_182 0 181 (dk_at dksX0_odds_1 16 rfl rfl)
theorem dX0_odds_43 : decode cX0_odds 43 = .ok (.imul, 1) := dk_104 (dk_at dksX0_odds_1 19 rfl rfl)
theorem dX0_odds_44 : decode cX0_odds 44 = .ok (.ireturn, 1) := dk_172 (dk_at dksX0_odds_1 20 rfl rfl)
theorem dX0_odds_45 : decode cX0_odds 45 = .ok (.aload_n 0, 1) := dk_42 (dk_at dksX0_odds_1 21 rfl rfl)
theorem dX0_odds_46 : decode cX0_odds 46 = .ok (.getfield 78, 3) := dk_180 0 78 (dk_at dksX0_odds_2 0 rfl rfl)
theorem dX0_odds_49 : decode cX0_odds 49 = .ok (.aload_n 0, 1) := dk_42 (dk_at dksX0_odds_2 3 rfl rfl)
theorem dX0_odds_50 : decode cX0_odds 50 = .ok (.getfield 74, 3) := dk_180 0 74 (dk_at dksX0_odds_2 4 rfl rfl)
theorem dX0_odds_53 : decode cX0_odds 53 = .ok (.invokevirtual 294, 3) := dk_182 1 38 (dk_at dksX0_odds_2 7 rfl rfl)
theorem dX0_odds_56 : decode cX0_odds 56 = .ok (.invokevirtual 304, 3) := dk_182 1 48 (dk_at dksX0_odds_2 10 rfl rfl)
theorem dX0_odds_59 : decode cX0_odds 59 = .ok (.pop, 1) := dk_87 (dk_at dksX0_odds_2 13 rfl rfl)
theorem dX0_odds_60 : decode cX0_odds 60 = .ok (.aload_n 0, 1) := dk_42 (dk_at dksX0_odds_2 14 rfl rfl)
theorem dX0_odds_61 : decode cX0_odds 61 = .ok (.getfield 78, 3) := dk_180 0 78 (dk_at dksX0_odds_2 15 rfl rfl)
theorem dX0_odds_64 : decode cX0_odds 64 = .ok (.iload_n 1, 1) := dk_27 (dk_at dksX0_odds_2 18 rfl rfl)
theorem dX0_odds_65 : decode cX0_odds 65 = .ok (.invokevirtual 301, 3) := dk_182 1 45 (dk_at dksX0_odds_2 19 rfl rfl)
theorem dX0_odds_68 : decode cX0_odds 68 = .ok (.ifCond .eq 7, 3) := dk_153 0 7 (dk_at dksX0_odds_3 0 rfl rfl)
theorem dX0_odds_71 : decode cX0_odds 71 = .ok (.iconst 0, 1) := dk_3 (dk_at dksX0_odds_3 3 rfl rfl)
theorem dX0_odds_72 : decode cX0_odds 72 = .ok (.goto 18, 3) := dk_167 0 18 (dk_at dksX0_odds_3 4 rfl rfl)
theorem dX0_odds_75 : decode cX0_odds 75 = .ok (.bipush 100, 2) := dk_16 100 (dk_at dksX0_odds_3 7 rfl rfl)
theorem dX0_odds_77 : decode cX0_odds 77 = .ok (.aload_n 0, 1) := dk_42 (dk_at dksX0_odds_3 9 rfl rfl)
theorem dX0_odds_78 : decode cX0_odds 78 = .ok (.getfield 31, 3) := dk_180 0 31 (dk_at dksX0_odds_3 10 rfl rfl)
theorem dX0_odds_81 : decode cX0_odds 81 = .ok (.getfield 336, 3) := dk_180 1 80 (dk_at dksX0_odds_3 13 rfl rfl)
theorem dX0_odds_84 : decode cX0_odds 84 = .ok (.isub, 1) := dk_100 (dk_at dksX0_odds_3 16 rfl rfl)
theorem dX0_odds_85 : decode cX0_odds 85 = .ok (.aload_n 0, 1) := dk_42 (dk_at dksX0_odds_3 17 rfl rfl)
theorem dX0_odds_86 : decode cX0_odds 86 = .ok (.invokevirtual 181, 3) := dk_182 0 181 (dk_at dksX0_odds_3 18 rfl rfl)
theorem dX0_odds_89 : decode cX0_odds 89 = .ok (.imul, 1) := dk_104 (dk_at dksX0_odds_3 21 rfl rfl)
theorem dX0_odds_90 : decode cX0_odds 90 = .ok (.istore_n 2, 1) := dk_61 (dk_at dksX0_odds_3 22 rfl rfl)
theorem dX0_odds_91 : decode cX0_odds 91 = .ok (.iconst 0, 1) := dk_3 (dk_at dksX0_odds_3 23 rfl rfl)
theorem dX0_odds_92 : decode cX0_odds 92 = .ok (.istore_n 3, 1) := dk_62 (dk_at dksX0_odds_4 0 rfl rfl)
theorem dX0_odds_93 : decode cX0_odds 93 = .ok (.iload_n 3, 1) := dk_29 (dk_at dksX0_odds_4 1 rfl rfl)
theorem dX0_odds_94 : decode cX0_odds 94 = .ok (.aload_n 0, 1) := dk_42 (dk_at dksX0_odds_4 2 rfl rfl)
theorem dX0_odds_95 : decode cX0_odds 95 = .ok (.invokevirtual 181, 3) := dk_182 0 181 (dk_at dksX0_odds_4 3 rfl rfl)
theorem dX0_odds_98 : decode cX0_odds 98 = .ok (.if_icmp .ge 57, 3) := dk_162 0 57 (dk_at dksX0_odds_4 6 rfl rfl)
theorem dX0_odds_101 : decode cX0_odds 101 = .ok (.aload_n 0, 1) := dk_42 (dk_at dksX0_odds_4 9 rfl rfl)
theorem dX0_odds_102 : decode cX0_odds 102 = .ok (.getfield 78, 3) := dk_180 0 78 (dk_at dksX0_odds_4 10 rfl rfl)
theorem dX0_odds_105 : decode cX0_odds 105 = .ok (.aload_n 0, 1) := dk_42 (dk_at dksX0_odds_4 13 rfl rfl)
theorem dX0_odds_106 : decode cX0_odds 106 = .ok (.getfield 74, 3) := dk_180 0 74 (dk_at dksX0_odds_4 14 rfl rfl)
theorem dX0_odds_109 : decode cX0_odds 109 = .ok (.invokevirtual 294, 3) := dk_182 1 38 (dk_at dksX0_odds_4 17 rfl rfl)
theorem dX0_odds_112 : decode cX0_odds 112 = .ok (.iload_n 3, 1) := dk_29 (dk_at dksX0_odds_4 20 rfl rfl)
theorem dX0_odds_113 : decode cX0_odds 113 = .ok (.invokevirtual 339, 3) := dk_182 1 83 (dk_at dksX0_odds_4 21 rfl rfl)
theorem dX0_odds_116 : decode cX0_odds 116 = .ok (.aload_n 0, 1) := dk_42 (dk_at dksX0_odds_5 0 rfl rfl)
theorem dX0_odds_117 : decode cX0_odds 117 = .ok (.getfield 78, 3) := dk_180 0 78 (dk_at dksX0_odds_5 1 rfl rfl)
theorem dX0_odds_120 : decode cX0_odds 120 = .ok (.invokevirtual 304, 3) := dk_182 1 48 (dk_at dksX0_odds_5 4 rfl rfl)
theorem dX0_odds_123 : decode cX0_odds 123 = .ok (.pop, 1) := dk_87 (dk_at dksX0_odds_5 7 rfl rfl)
theorem dX0_odds_124 : decode cX0_odds 124 = .ok (.iload_n 2, 1) := dk_28 (dk_at dksX0_odds_5 8 rfl rfl)
theorem dX0_odds_125 : decode cX0_odds 125 = .ok (.aload_n 0, 1) := dk_42 (dk_at dksX0_odds_5 9 rfl rfl)
theorem dX0_odds_126 : decode cX0_odds 126 = .ok (.getfield 78, 3) := dk_180 0 78 (dk_at dksX0_odds_5 10 rfl rfl)
theorem dX0_odds_129 : decode cX0_odds 129 = .ok (.iload_n 1, 1) := dk_27 (dk_at dksX0_odds_5 13 rfl rfl)
theorem dX0_odds_130 : decode cX0_odds 130 = .ok (.invokevirtual 301, 3) := dk_182 1 45 (dk_at dksX0_odds_5 14 rfl rfl)
theorem dX0_odds_133 : decode cX0_odds 133 = .ok (.ifCond .eq 7, 3) := dk_153 0 7 (dk_at dksX0_odds_5 17 rfl rfl)
theorem dX0_odds_136 : decode cX0_odds 136 = .ok (.iconst 0, 1) := dk_3 (dk_at dksX0_odds_5 20 rfl rfl)
theorem dX0_odds_137 : decode cX0_odds 137 = .ok (.goto 10, 3) := dk_167 0 10 (dk_at dksX0_odds_5 21 rfl rfl)
theorem dX0_odds_140 : decode cX0_odds 140 = .ok (.aload_n 0, 1) := dk_42 (dk_at dksX0_odds_6 0 rfl rfl)
theorem dX0_odds_141 : decode cX0_odds 141 = .ok (.getfield 31, 3) := dk_180 0 31 (dk_at dksX0_odds_6 1 rfl rfl)
theorem dX0_odds_144 : decode cX0_odds 144 = .ok (.getfield 336, 3) := dk_180 1 80 (dk_at dksX0_odds_6 4 rfl rfl)
theorem dX0_odds_147 : decode cX0_odds 147 = .ok (.iadd, 1) := dk_96 (dk_at dksX0_odds_6 7 rfl rfl)
theorem dX0_odds_148 : decode cX0_odds 148 = .ok (.istore_n 2, 1) := dk_61 (dk_at dksX0_odds_6 8 rfl rfl)
theorem dX0_odds_149 : decode cX0_odds 149 = .ok (.iinc 3 1, 3) := dk_132 3 1 (dk_at dksX0_odds_6 9 rfl rfl)
theorem dX0_odds_152 : decode cX0_odds 152 = .ok (.goto (-59), 3) := dk_167 255 197 (dk_at dksX0_odds_6 12 rfl rfl)
theorem dX0_odds_155 : decode cX0_odds 155 = .ok (.iload_n 2, 1) := dk_28 (dk_at dksX0_odds_6 15 rfl rfl)
theorem dX0_odds_156 : decode cX0_odds 156 = .ok (.ireturn, 1) := dk_172 (dk_at dksX0_odds_6 16 rfl rfl)
abbrev cX0_see : ByteArray := prog_1_method_49_code
def yX0_see : MethodName := ⟨RX0, "see", "()I"⟩
def dkwX0_see_7 : List UInt8 := [167, 255, 202, 42, 180, 0, 158, 172]
abbrev dktX0_see_7 : List UInt8 := dkwX0_see_7 ++ []
def dkwX0_see_6 : List UInt8 := [182, 1, 86, 79, 42, 180, 0, 103, 29, 42, 6, 29, 104, 5, 96, 182, 1, 86, 79, 132, 3, 1]
abbrev dktX0_see_6 : List UInt8 := dkwX0_see_6 ++ dktX0_see_7
def dkwX0_see_5 : List UInt8 := [180, 0, 97, 29, 42, 6, 29, 104, 182, 1, 86, 79, 42, 180, 0, 100, 29, 42, 6, 29, 104, 4, 96]
abbrev dktX0_see_5 : List UInt8 := dkwX0_see_5 ++ dktX0_see_6
def dkwX0_see_4 : List UInt8 := [182, 0, 125, 172, 42, 27, 6, 108, 181, 0, 158, 3, 62, 29, 42, 180, 0, 158, 162, 0, 52, 42]
abbrev dktX0_see_4 : List UInt8 := dkwX0_see_4 ++ dktX0_see_5
def dkwX0_see_3 : List UInt8 := [16, 99, 163, 0, 7, 4, 167, 0, 4, 3, 61, 132, 3, 3, 167, 255, 202, 28, 154, 0, 9, 42, 4]
abbrev dktX0_see_3 : List UInt8 := dkwX0_see_3 ++ dktX0_see_4
def dkwX0_see_2 : List UInt8 := [163, 0, 33, 42, 42, 29, 4, 96, 182, 1, 86, 182, 0, 240, 153, 0, 19, 42, 29, 5, 96, 182, 1, 86]
abbrev dktX0_see_2 : List UInt8 := dkwX0_see_2 ++ dktX0_see_3
def dkwX0_see_1 : List UInt8 := [167, 0, 4, 3, 61, 3, 62, 29, 27, 162, 0, 55, 28, 153, 0, 51, 42, 29, 182, 1, 86, 16, 30]
abbrev dktX0_see_1 : List UInt8 := dkwX0_see_1 ++ dktX0_see_2
def dkwX0_see_0 : List UInt8 := [42, 182, 0, 136, 60, 27, 158, 0, 19, 27, 6, 112, 154, 0, 13, 27, 16, 48, 163, 0, 7, 4]
abbrev dktX0_see_0 : List UInt8 := dkwX0_see_0 ++ dktX0_see_1
theorem dksX0_see_0 : cX0_see.data.toList.drop 0 = dktX0_see_0 := by decide +kernel
theorem dksX0_see_1 : cX0_see.data.toList.drop 22 = dktX0_see_1 := dk_seg dksX0_see_0 22 rfl rfl
theorem dksX0_see_2 : cX0_see.data.toList.drop 45 = dktX0_see_2 := dk_seg dksX0_see_1 23 rfl rfl
theorem dksX0_see_3 : cX0_see.data.toList.drop 69 = dktX0_see_3 := dk_seg dksX0_see_2 24 rfl rfl
theorem dksX0_see_4 : cX0_see.data.toList.drop 92 = dktX0_see_4 := dk_seg dksX0_see_3 23 rfl rfl
theorem dksX0_see_5 : cX0_see.data.toList.drop 114 = dktX0_see_5 := dk_seg dksX0_see_4 22 rfl rfl
theorem dksX0_see_6 : cX0_see.data.toList.drop 137 = dktX0_see_6 := dk_seg dksX0_see_5 23 rfl rfl
theorem dksX0_see_7 : cX0_see.data.toList.drop 159 = dktX0_see_7 := dk_seg dksX0_see_6 22 rfl rfl
theorem dX0_see_0 : decode cX0_see 0 = .ok (.aload_n 0, 1) := dk_42 (dk_at dksX0_see_0 0 rfl rfl)
theorem dX0_see_1 : decode cX0_see 1 = .ok (.invokevirtual 136, 3) := dk_182 0 136 (dk_at dksX0_see_0 1 rfl rfl)
theorem dX0_see_4 : decode cX0_see 4 = .ok (.istore_n 1, 1) := dk_60 (dk_at dksX0_see_0 4 rfl rfl)
theorem dX0_see_5 : decode cX0_see 5 = .ok (.iload_n 1, 1) := dk_27 (dk_at dksX0_see_0 5 rfl rfl)
theorem dX0_see_6 : decode cX0_see 6 = .ok (.ifCond .le 19, 3) := dk_158 0 19 (dk_at dksX0_see_0 6 rfl rfl)
theorem dX0_see_9 : decode cX0_see 9 = .ok (.iload_n 1, 1) := dk_27 (dk_at dksX0_see_0 9 rfl rfl)
theorem dX0_see_10 : decode cX0_see 10 = .ok (.iconst 3, 1) := dk_6 (dk_at dksX0_see_0 10 rfl rfl)
theorem dX0_see_11 : decode cX0_see 11 = .ok (.irem, 1) := dk_112 (dk_at dksX0_see_0 11 rfl rfl)
theorem dX0_see_12 : decode cX0_see 12 = .ok (.ifCond .ne 13, 3) := dk_154 0 13 (dk_at dksX0_see_0 12 rfl rfl)
theorem dX0_see_15 : decode cX0_see 15 = .ok (.iload_n 1, 1) := dk_27 (dk_at dksX0_see_0 15 rfl rfl)
theorem dX0_see_16 : decode cX0_see 16 = .ok (.bipush 48, 2) := dk_16 48 (dk_at dksX0_see_0 16 rfl rfl)
theorem dX0_see_18 : decode cX0_see 18 = .ok (.if_icmp .gt 7, 3) := dk_163 0 7 (dk_at dksX0_see_0 18 rfl rfl)
theorem dX0_see_21 : decode cX0_see 21 = .ok (.iconst 1, 1) := dk_4 (dk_at dksX0_see_0 21 rfl rfl)
theorem dX0_see_22 : decode cX0_see 22 = .ok (.goto 4, 3) := dk_167 0 4 (dk_at dksX0_see_1 0 rfl rfl)
theorem dX0_see_25 : decode cX0_see 25 = .ok (.iconst 0, 1) := dk_3 (dk_at dksX0_see_1 3 rfl rfl)
theorem dX0_see_26 : decode cX0_see 26 = .ok (.istore_n 2, 1) := dk_61 (dk_at dksX0_see_1 4 rfl rfl)
theorem dX0_see_27 : decode cX0_see 27 = .ok (.iconst 0, 1) := dk_3 (dk_at dksX0_see_1 5 rfl rfl)
theorem dX0_see_28 : decode cX0_see 28 = .ok (.istore_n 3, 1) := dk_62 (dk_at dksX0_see_1 6 rfl rfl)
theorem dX0_see_29 : decode cX0_see 29 = .ok (.iload_n 3, 1) := dk_29 (dk_at dksX0_see_1 7 rfl rfl)
theorem dX0_see_30 : decode cX0_see 30 = .ok (.iload_n 1, 1) := dk_27 (dk_at dksX0_see_1 8 rfl rfl)
theorem dX0_see_31 : decode cX0_see 31 = .ok (.if_icmp .ge 55, 3) := dk_162 0 55 (dk_at dksX0_see_1 9 rfl rfl)
theorem dX0_see_34 : decode cX0_see 34 = .ok (.iload_n 2, 1) := dk_28 (dk_at dksX0_see_1 12 rfl rfl)
theorem dX0_see_35 : decode cX0_see 35 = .ok (.ifCond .eq 51, 3) := dk_153 0 51 (dk_at dksX0_see_1 13 rfl rfl)
theorem dX0_see_38 : decode cX0_see 38 = .ok (.aload_n 0, 1) := dk_42 (dk_at dksX0_see_1 16 rfl rfl)
theorem dX0_see_39 : decode cX0_see 39 = .ok (.iload_n 3, 1) := dk_29 (dk_at dksX0_see_1 17 rfl rfl)
theorem dX0_see_40 : decode cX0_see 40 = .ok (.invokevirtual 342, 3) := dk_182 1 86 (dk_at dksX0_see_1 18 rfl rfl)
theorem dX0_see_43 : decode cX0_see 43 = .ok (.bipush 30, 2) := dk_16 30 (dk_at dksX0_see_1 21 rfl rfl)
theorem dX0_see_45 : decode cX0_see 45 = .ok (.if_icmp .gt 33, 3) := dk_163 0 33 (dk_at dksX0_see_2 0 rfl rfl)
theorem dX0_see_48 : decode cX0_see 48 = .ok (.aload_n 0, 1) := dk_42 (dk_at dksX0_see_2 3 rfl rfl)
theorem dX0_see_49 : decode cX0_see 49 = .ok (.aload_n 0, 1) := dk_42 (dk_at dksX0_see_2 4 rfl rfl)
theorem dX0_see_50 : decode cX0_see 50 = .ok (.iload_n 3, 1) := dk_29 (dk_at dksX0_see_2 5 rfl rfl)
theorem dX0_see_51 : decode cX0_see 51 = .ok (.iconst 1, 1) := dk_4 (dk_at dksX0_see_2 6 rfl rfl)
theorem dX0_see_52 : decode cX0_see 52 = .ok (.iadd, 1) := dk_96 (dk_at dksX0_see_2 7 rfl rfl)
theorem dX0_see_53 : decode cX0_see 53 = .ok (.invokevirtual 342, 3) := dk_182 1 86 (dk_at dksX0_see_2 8 rfl rfl)
theorem dX0_see_56 : decode cX0_see 56 = .ok (.invokevirtual 240, 3) := dk_182 0 240 (dk_at dksX0_see_2 11 rfl rfl)
theorem dX0_see_59 : decode cX0_see 59 = .ok (.ifCond .eq 19, 3) := dk_153 0 19 (dk_at dksX0_see_2 14 rfl rfl)
theorem dX0_see_62 : decode cX0_see 62 = .ok (.aload_n 0, 1) := dk_42 (dk_at dksX0_see_2 17 rfl rfl)
theorem dX0_see_63 : decode cX0_see 63 = .ok (.iload_n 3, 1) := dk_29 (dk_at dksX0_see_2 18 rfl rfl)
theorem dX0_see_64 : decode cX0_see 64 = .ok (.iconst 2, 1) := dk_5 (dk_at dksX0_see_2 19 rfl rfl)
theorem dX0_see_65 : decode cX0_see 65 = .ok (.iadd, 1) := dk_96 (dk_at dksX0_see_2 20 rfl rfl)
theorem dX0_see_66 : decode cX0_see 66 = .ok (.invokevirtual 342, 3) := dk_182 1 86 (dk_at dksX0_see_2 21 rfl rfl)
theorem dX0_see_69 : decode cX0_see 69 = .ok (.bipush 99, 2) := dk_16 99 (dk_at dksX0_see_3 0 rfl rfl)
theorem dX0_see_71 : decode cX0_see 71 = .ok (.if_icmp .gt 7, 3) := dk_163 0 7 (dk_at dksX0_see_3 2 rfl rfl)
theorem dX0_see_74 : decode cX0_see 74 = .ok (.iconst 1, 1) := dk_4 (dk_at dksX0_see_3 5 rfl rfl)
theorem dX0_see_75 : decode cX0_see 75 = .ok (.goto 4, 3) := dk_167 0 4 (dk_at dksX0_see_3 6 rfl rfl)
theorem dX0_see_78 : decode cX0_see 78 = .ok (.iconst 0, 1) := dk_3 (dk_at dksX0_see_3 9 rfl rfl)
theorem dX0_see_79 : decode cX0_see 79 = .ok (.istore_n 2, 1) := dk_61 (dk_at dksX0_see_3 10 rfl rfl)
theorem dX0_see_80 : decode cX0_see 80 = .ok (.iinc 3 3, 3) := dk_132 3 3 (dk_at dksX0_see_3 11 rfl rfl)
theorem dX0_see_83 : decode cX0_see 83 = .ok (.goto (-54), 3) := dk_167 255 202 (dk_at dksX0_see_3 14 rfl rfl)
theorem dX0_see_86 : decode cX0_see 86 = .ok (.iload_n 2, 1) := dk_28 (dk_at dksX0_see_3 17 rfl rfl)
theorem dX0_see_87 : decode cX0_see 87 = .ok (.ifCond .ne 9, 3) := dk_154 0 9 (dk_at dksX0_see_3 18 rfl rfl)
theorem dX0_see_90 : decode cX0_see 90 = .ok (.aload_n 0, 1) := dk_42 (dk_at dksX0_see_3 21 rfl rfl)
theorem dX0_see_91 : decode cX0_see 91 = .ok (.iconst 1, 1) := dk_4 (dk_at dksX0_see_3 22 rfl rfl)
theorem dX0_see_92 : decode cX0_see 92 = .ok (.invokevirtual 125, 3) := dk_182 0 125 (dk_at dksX0_see_4 0 rfl rfl)
theorem dX0_see_95 : decode cX0_see 95 = .ok (.ireturn, 1) := dk_172 (dk_at dksX0_see_4 3 rfl rfl)
theorem dX0_see_96 : decode cX0_see 96 = .ok (.aload_n 0, 1) := dk_42 (dk_at dksX0_see_4 4 rfl rfl)
theorem dX0_see_97 : decode cX0_see 97 = .ok (.iload_n 1, 1) := dk_27 (dk_at dksX0_see_4 5 rfl rfl)
theorem dX0_see_98 : decode cX0_see 98 = .ok (.iconst 3, 1) := dk_6 (dk_at dksX0_see_4 6 rfl rfl)
theorem dX0_see_99 : decode cX0_see 99 = .ok (.idiv, 1) := dk_108 (dk_at dksX0_see_4 7 rfl rfl)
theorem dX0_see_100 : decode cX0_see 100 = .ok (.putfield 158, 3) := dk_181 0 158 (dk_at dksX0_see_4 8 rfl rfl)
theorem dX0_see_103 : decode cX0_see 103 = .ok (.iconst 0, 1) := dk_3 (dk_at dksX0_see_4 11 rfl rfl)
theorem dX0_see_104 : decode cX0_see 104 = .ok (.istore_n 3, 1) := dk_62 (dk_at dksX0_see_4 12 rfl rfl)
theorem dX0_see_105 : decode cX0_see 105 = .ok (.iload_n 3, 1) := dk_29 (dk_at dksX0_see_4 13 rfl rfl)
theorem dX0_see_106 : decode cX0_see 106 = .ok (.aload_n 0, 1) := dk_42 (dk_at dksX0_see_4 14 rfl rfl)
theorem dX0_see_107 : decode cX0_see 107 = .ok (.getfield 158, 3) := dk_180 0 158 (dk_at dksX0_see_4 15 rfl rfl)
theorem dX0_see_110 : decode cX0_see 110 = .ok (.if_icmp .ge 52, 3) := dk_162 0 52 (dk_at dksX0_see_4 18 rfl rfl)
theorem dX0_see_113 : decode cX0_see 113 = .ok (.aload_n 0, 1) := dk_42 (dk_at dksX0_see_4 21 rfl rfl)
theorem dX0_see_114 : decode cX0_see 114 = .ok (.getfield 97, 3) := dk_180 0 97 (dk_at dksX0_see_5 0 rfl rfl)
theorem dX0_see_117 : decode cX0_see 117 = .ok (.iload_n 3, 1) := dk_29 (dk_at dksX0_see_5 3 rfl rfl)
theorem dX0_see_118 : decode cX0_see 118 = .ok (.aload_n 0, 1) := dk_42 (dk_at dksX0_see_5 4 rfl rfl)
theorem dX0_see_119 : decode cX0_see 119 = .ok (.iconst 3, 1) := dk_6 (dk_at dksX0_see_5 5 rfl rfl)
theorem dX0_see_120 : decode cX0_see 120 = .ok (.iload_n 3, 1) := dk_29 (dk_at dksX0_see_5 6 rfl rfl)
theorem dX0_see_121 : decode cX0_see 121 = .ok (.imul, 1) := dk_104 (dk_at dksX0_see_5 7 rfl rfl)
theorem dX0_see_122 : decode cX0_see 122 = .ok (.invokevirtual 342, 3) := dk_182 1 86 (dk_at dksX0_see_5 8 rfl rfl)
theorem dX0_see_125 : decode cX0_see 125 = .ok (.iastore, 1) := dk_79 (dk_at dksX0_see_5 11 rfl rfl)
theorem dX0_see_126 : decode cX0_see 126 = .ok (.aload_n 0, 1) := dk_42 (dk_at dksX0_see_5 12 rfl rfl)
theorem dX0_see_127 : decode cX0_see 127 = .ok (.getfield 100, 3) := dk_180 0 100 (dk_at dksX0_see_5 13 rfl rfl)
theorem dX0_see_130 : decode cX0_see 130 = .ok (.iload_n 3, 1) := dk_29 (dk_at dksX0_see_5 16 rfl rfl)
theorem dX0_see_131 : decode cX0_see 131 = .ok (.aload_n 0, 1) := dk_42 (dk_at dksX0_see_5 17 rfl rfl)
theorem dX0_see_132 : decode cX0_see 132 = .ok (.iconst 3, 1) := dk_6 (dk_at dksX0_see_5 18 rfl rfl)
theorem dX0_see_133 : decode cX0_see 133 = .ok (.iload_n 3, 1) := dk_29 (dk_at dksX0_see_5 19 rfl rfl)
theorem dX0_see_134 : decode cX0_see 134 = .ok (.imul, 1) := dk_104 (dk_at dksX0_see_5 20 rfl rfl)
theorem dX0_see_135 : decode cX0_see 135 = .ok (.iconst 1, 1) := dk_4 (dk_at dksX0_see_5 21 rfl rfl)
theorem dX0_see_136 : decode cX0_see 136 = .ok (.iadd, 1) := dk_96 (dk_at dksX0_see_5 22 rfl rfl)
theorem dX0_see_137 : decode cX0_see 137 = .ok (.invokevirtual 342, 3) := dk_182 1 86 (dk_at dksX0_see_6 0 rfl rfl)
theorem dX0_see_140 : decode cX0_see 140 = .ok (.iastore, 1) := dk_79 (dk_at dksX0_see_6 3 rfl rfl)
theorem dX0_see_141 : decode cX0_see 141 = .ok (.aload_n 0, 1) := dk_42 (dk_at dksX0_see_6 4 rfl rfl)
theorem dX0_see_142 : decode cX0_see 142 = .ok (.getfield 103, 3) := dk_180 0 103 (dk_at dksX0_see_6 5 rfl rfl)
theorem dX0_see_145 : decode cX0_see 145 = .ok (.iload_n 3, 1) := dk_29 (dk_at dksX0_see_6 8 rfl rfl)
theorem dX0_see_146 : decode cX0_see 146 = .ok (.aload_n 0, 1) := dk_42 (dk_at dksX0_see_6 9 rfl rfl)
theorem dX0_see_147 : decode cX0_see 147 = .ok (.iconst 3, 1) := dk_6 (dk_at dksX0_see_6 10 rfl rfl)
theorem dX0_see_148 : decode cX0_see 148 = .ok (.iload_n 3, 1) := dk_29 (dk_at dksX0_see_6 11 rfl rfl)
theorem dX0_see_149 : decode cX0_see 149 = .ok (.imul, 1) := dk_104 (dk_at dksX0_see_6 12 rfl rfl)
theorem dX0_see_150 : decode cX0_see 150 = .ok (.iconst 2, 1) := dk_5 (dk_at dksX0_see_6 13 rfl rfl)
theorem dX0_see_151 : decode cX0_see 151 = .ok (.iadd, 1) := dk_96 (dk_at dksX0_see_6 14 rfl rfl)
theorem dX0_see_152 : decode cX0_see 152 = .ok (.invokevirtual 342, 3) := dk_182 1 86 (dk_at dksX0_see_6 15 rfl rfl)
theorem dX0_see_155 : decode cX0_see 155 = .ok (.iastore, 1) := dk_79 (dk_at dksX0_see_6 18 rfl rfl)
theorem dX0_see_156 : decode cX0_see 156 = .ok (.iinc 3 1, 3) := dk_132 3 1 (dk_at dksX0_see_6 19 rfl rfl)
theorem dX0_see_159 : decode cX0_see 159 = .ok (.goto (-54), 3) := dk_167 255 202 (dk_at dksX0_see_7 0 rfl rfl)
theorem dX0_see_162 : decode cX0_see 162 = .ok (.aload_n 0, 1) := dk_42 (dk_at dksX0_see_7 3 rfl rfl)
theorem dX0_see_163 : decode cX0_see 163 = .ok (.getfield 158, 3) := dk_180 0 158 (dk_at dksX0_see_7 4 rfl rfl)
theorem dX0_see_166 : decode cX0_see 166 = .ok (.ireturn, 1) := dk_172 (dk_at dksX0_see_7 7 rfl rfl)
abbrev cX0_byteAt : ByteArray := prog_1_method_48_code
def yX0_byteAt : MethodName := ⟨RX0, "byteAt", "(I)I"⟩
def dkwX0_byteAt_0 : List UInt8 := [42, 180, 0, 35, 27, 51, 17, 0, 255, 126, 172]
abbrev dktX0_byteAt_0 : List UInt8 := dkwX0_byteAt_0 ++ []
theorem dksX0_byteAt_0 : cX0_byteAt.data.toList.drop 0 = dktX0_byteAt_0 := by decide +kernel
theorem dX0_byteAt_0 : decode cX0_byteAt 0 = .ok (.aload_n 0, 1) := dk_42 (dk_at dksX0_byteAt_0 0 rfl rfl)
theorem dX0_byteAt_1 : decode cX0_byteAt 1 = .ok (.getfield 35, 3) := dk_180 0 35 (dk_at dksX0_byteAt_0 1 rfl rfl)
theorem dX0_byteAt_4 : decode cX0_byteAt 4 = .ok (.iload_n 1, 1) := dk_27 (dk_at dksX0_byteAt_0 4 rfl rfl)
theorem dX0_byteAt_5 : decode cX0_byteAt 5 = .ok (.baload, 1) := dk_51 (dk_at dksX0_byteAt_0 5 rfl rfl)
theorem dX0_byteAt_6 : decode cX0_byteAt 6 = .ok (.sipush 255, 3) := dk_17 0 255 (dk_at dksX0_byteAt_0 6 rfl rfl)
theorem dX0_byteAt_9 : decode cX0_byteAt 9 = .ok (.iand, 1) := dk_126 (dk_at dksX0_byteAt_0 9 rfl rfl)
theorem dX0_byteAt_10 : decode cX0_byteAt 10 = .ok (.ireturn, 1) := dk_172 (dk_at dksX0_byteAt_0 10 rfl rfl)
abbrev cX0_heats : ByteArray := prog_1_method_51_code
def yX0_heats : MethodName := ⟨RX0, "heats", "(I)I"⟩
def dkwX0_heats_1 : List UInt8 := [182, 1, 92, 153, 0, 9, 4, 29, 120, 167, 0, 4, 3, 128, 61, 132, 3, 1, 167, 255, 228, 28, 172]
abbrev dktX0_heats_1 : List UInt8 := dkwX0_heats_1 ++ []
def dkwX0_heats_0 : List UInt8 := [42, 27, 182, 0, 240, 154, 0, 5, 2, 172, 3, 61, 3, 62, 29, 16, 10, 162, 0, 28, 28, 42, 27, 29]
abbrev dktX0_heats_0 : List UInt8 := dkwX0_heats_0 ++ dktX0_heats_1
theorem dksX0_heats_0 : cX0_heats.data.toList.drop 0 = dktX0_heats_0 := by decide +kernel
theorem dksX0_heats_1 : cX0_heats.data.toList.drop 24 = dktX0_heats_1 := dk_seg dksX0_heats_0 24 rfl rfl
theorem dX0_heats_0 : decode cX0_heats 0 = .ok (.aload_n 0, 1) := dk_42 (dk_at dksX0_heats_0 0 rfl rfl)
theorem dX0_heats_1 : decode cX0_heats 1 = .ok (.iload_n 1, 1) := dk_27 (dk_at dksX0_heats_0 1 rfl rfl)
theorem dX0_heats_2 : decode cX0_heats 2 = .ok (.invokevirtual 240, 3) := dk_182 0 240 (dk_at dksX0_heats_0 2 rfl rfl)
theorem dX0_heats_5 : decode cX0_heats 5 = .ok (.ifCond .ne 5, 3) := dk_154 0 5 (dk_at dksX0_heats_0 5 rfl rfl)
theorem dX0_heats_8 : decode cX0_heats 8 = .ok (.iconst (-1), 1) := dk_2 (dk_at dksX0_heats_0 8 rfl rfl)
theorem dX0_heats_9 : decode cX0_heats 9 = .ok (.ireturn, 1) := dk_172 (dk_at dksX0_heats_0 9 rfl rfl)
theorem dX0_heats_10 : decode cX0_heats 10 = .ok (.iconst 0, 1) := dk_3 (dk_at dksX0_heats_0 10 rfl rfl)
theorem dX0_heats_11 : decode cX0_heats 11 = .ok (.istore_n 2, 1) := dk_61 (dk_at dksX0_heats_0 11 rfl rfl)
theorem dX0_heats_12 : decode cX0_heats 12 = .ok (.iconst 0, 1) := dk_3 (dk_at dksX0_heats_0 12 rfl rfl)
theorem dX0_heats_13 : decode cX0_heats 13 = .ok (.istore_n 3, 1) := dk_62 (dk_at dksX0_heats_0 13 rfl rfl)
theorem dX0_heats_14 : decode cX0_heats 14 = .ok (.iload_n 3, 1) := dk_29 (dk_at dksX0_heats_0 14 rfl rfl)
theorem dX0_heats_15 : decode cX0_heats 15 = .ok (.bipush 10, 2) := dk_16 10 (dk_at dksX0_heats_0 15 rfl rfl)
theorem dX0_heats_17 : decode cX0_heats 17 = .ok (.if_icmp .ge 28, 3) := dk_162 0 28 (dk_at dksX0_heats_0 17 rfl rfl)
theorem dX0_heats_20 : decode cX0_heats 20 = .ok (.iload_n 2, 1) := dk_28 (dk_at dksX0_heats_0 20 rfl rfl)
theorem dX0_heats_21 : decode cX0_heats 21 = .ok (.aload_n 0, 1) := dk_42 (dk_at dksX0_heats_0 21 rfl rfl)
theorem dX0_heats_22 : decode cX0_heats 22 = .ok (.iload_n 1, 1) := dk_27 (dk_at dksX0_heats_0 22 rfl rfl)
theorem dX0_heats_23 : decode cX0_heats 23 = .ok (.iload_n 3, 1) := dk_29 (dk_at dksX0_heats_0 23 rfl rfl)
theorem dX0_heats_24 : decode cX0_heats 24 = .ok (.invokevirtual 348, 3) := dk_182 1 92 (dk_at dksX0_heats_1 0 rfl rfl)
theorem dX0_heats_27 : decode cX0_heats 27 = .ok (.ifCond .eq 9, 3) := dk_153 0 9 (dk_at dksX0_heats_1 3 rfl rfl)
theorem dX0_heats_30 : decode cX0_heats 30 = .ok (.iconst 1, 1) := dk_4 (dk_at dksX0_heats_1 6 rfl rfl)
theorem dX0_heats_31 : decode cX0_heats 31 = .ok (.iload_n 3, 1) := dk_29 (dk_at dksX0_heats_1 7 rfl rfl)
theorem dX0_heats_32 : decode cX0_heats 32 = .ok (.ishl, 1) := dk_120 (dk_at dksX0_heats_1 8 rfl rfl)
theorem dX0_heats_33 : decode cX0_heats 33 = .ok (.goto 4, 3) := dk_167 0 4 (dk_at dksX0_heats_1 9 rfl rfl)
theorem dX0_heats_36 : decode cX0_heats 36 = .ok (.iconst 0, 1) := dk_3 (dk_at dksX0_heats_1 12 rfl rfl)
theorem dX0_heats_37 : decode cX0_heats 37 = .ok (.ior, 1) := dk_128 (dk_at dksX0_heats_1 13 rfl rfl)
theorem dX0_heats_38 : decode cX0_heats 38 = .ok (.istore_n 2, 1) := dk_61 (dk_at dksX0_heats_1 14 rfl rfl)
theorem dX0_heats_39 : decode cX0_heats 39 = .ok (.iinc 3 1, 3) := dk_132 3 1 (dk_at dksX0_heats_1 15 rfl rfl)
theorem dX0_heats_42 : decode cX0_heats 42 = .ok (.goto (-28), 3) := dk_167 255 228 (dk_at dksX0_heats_1 18 rfl rfl)
theorem dX0_heats_45 : decode cX0_heats 45 = .ok (.iload_n 2, 1) := dk_28 (dk_at dksX0_heats_1 21 rfl rfl)
theorem dX0_heats_46 : decode cX0_heats 46 = .ok (.ireturn, 1) := dk_172 (dk_at dksX0_heats_1 22 rfl rfl)
abbrev cX0_canBe : ByteArray := prog_1_method_50_code
def yX0_canBe : MethodName := ⟨RX0, "canBe", "(II)Z"⟩
def dkwX0_canBe_6 : List UInt8 := [182, 1, 48, 87, 132, 4, 1, 167, 255, 132, 29, 42, 180, 0, 158, 160, 0, 7, 4, 167, 0, 4, 3, 172]
abbrev dktX0_canBe_6 : List UInt8 := dkwX0_canBe_6 ++ []
def dkwX0_canBe_5 : List UInt8 := [21, 5, 46, 160, 0, 7, 4, 167, 0, 4, 3, 96, 62, 132, 5, 1, 167, 255, 199, 42, 180, 0, 78]
abbrev dktX0_canBe_5 : List UInt8 := dkwX0_canBe_5 ++ dktX0_canBe_6
def dkwX0_canBe_4 : List UInt8 := [21, 4, 160, 0, 32, 42, 180, 0, 78, 180, 0, 254, 42, 180, 0, 100, 21, 5, 46, 46, 42, 180, 0, 103]
abbrev dktX0_canBe_4 : List UInt8 := dkwX0_canBe_4 ++ dktX0_canBe_5
def dkwX0_canBe_3 : List UInt8 := [167, 255, 224, 3, 54, 5, 21, 5, 42, 180, 0, 158, 162, 0, 54, 29, 42, 180, 0, 97, 21, 5, 46]
abbrev dktX0_canBe_3 : List UInt8 := dkwX0_canBe_3 ++ dktX0_canBe_4
def dkwX0_canBe_2 : List UInt8 := [180, 0, 108, 28, 50, 21, 4, 50, 21, 5, 42, 180, 0, 78, 180, 0, 254, 21, 5, 46, 79, 132, 5, 1]
abbrev dktX0_canBe_2 : List UInt8 := dkwX0_canBe_2 ++ dktX0_canBe_3
def dkwX0_canBe_1 : List UInt8 := [21, 4, 3, 16, 30, 182, 1, 35, 153, 0, 118, 3, 54, 5, 21, 5, 16, 8, 162, 0, 31, 42]
abbrev dktX0_canBe_1 : List UInt8 := dkwX0_canBe_1 ++ dktX0_canBe_2
def dkwX0_canBe_0 : List UInt8 := [42, 180, 0, 78, 42, 180, 0, 74, 182, 1, 38, 180, 1, 89, 27, 28, 79, 3, 62, 3, 54, 4, 42]
abbrev dktX0_canBe_0 : List UInt8 := dkwX0_canBe_0 ++ dktX0_canBe_1
theorem dksX0_canBe_0 : cX0_canBe.data.toList.drop 0 = dktX0_canBe_0 := by decide +kernel
theorem dksX0_canBe_1 : cX0_canBe.data.toList.drop 23 = dktX0_canBe_1 := dk_seg dksX0_canBe_0 23 rfl rfl
theorem dksX0_canBe_2 : cX0_canBe.data.toList.drop 45 = dktX0_canBe_2 := dk_seg dksX0_canBe_1 22 rfl rfl
theorem dksX0_canBe_3 : cX0_canBe.data.toList.drop 69 = dktX0_canBe_3 := dk_seg dksX0_canBe_2 24 rfl rfl
theorem dksX0_canBe_4 : cX0_canBe.data.toList.drop 92 = dktX0_canBe_4 := dk_seg dksX0_canBe_3 23 rfl rfl
theorem dksX0_canBe_5 : cX0_canBe.data.toList.drop 116 = dktX0_canBe_5 := dk_seg dksX0_canBe_4 24 rfl rfl
theorem dksX0_canBe_6 : cX0_canBe.data.toList.drop 139 = dktX0_canBe_6 := dk_seg dksX0_canBe_5 23 rfl rfl
theorem dX0_canBe_0 : decode cX0_canBe 0 = .ok (.aload_n 0, 1) := dk_42 (dk_at dksX0_canBe_0 0 rfl rfl)
theorem dX0_canBe_1 : decode cX0_canBe 1 = .ok (.getfield 78, 3) := dk_180 0 78 (dk_at dksX0_canBe_0 1 rfl rfl)
theorem dX0_canBe_4 : decode cX0_canBe 4 = .ok (.aload_n 0, 1) := dk_42 (dk_at dksX0_canBe_0 4 rfl rfl)
theorem dX0_canBe_5 : decode cX0_canBe 5 = .ok (.getfield 74, 3) := dk_180 0 74 (dk_at dksX0_canBe_0 5 rfl rfl)
theorem dX0_canBe_8 : decode cX0_canBe 8 = .ok (.invokevirtual 294, 3) := dk_182 1 38 (dk_at dksX0_canBe_0 8 rfl rfl)
theorem dX0_canBe_11 : decode cX0_canBe 11 = .ok (.getfield 345, 3) := dk_180 1 89 (dk_at dksX0_canBe_0 11 rfl rfl)
theorem dX0_canBe_14 : decode cX0_canBe 14 = .ok (.iload_n 1, 1) := dk_27 (dk_at dksX0_canBe_0 14 rfl rfl)
theorem dX0_canBe_15 : decode cX0_canBe 15 = .ok (.iload_n 2, 1) := dk_28 (dk_at dksX0_canBe_0 15 rfl rfl)
theorem dX0_canBe_16 : decode cX0_canBe 16 = .ok (.iastore, 1) := dk_79 (dk_at dksX0_canBe_0 16 rfl rfl)
theorem dX0_canBe_17 : decode cX0_canBe 17 = .ok (.iconst 0, 1) := dk_3 (dk_at dksX0_canBe_0 17 rfl rfl)
theorem dX0_canBe_18 : decode cX0_canBe 18 = .ok (.istore_n 3, 1) := dk_62 (dk_at dksX0_canBe_0 18 rfl rfl)
theorem dX0_canBe_19 : decode cX0_canBe 19 = .ok (.iconst 0, 1) := dk_3 (dk_at dksX0_canBe_0 19 rfl rfl)
theorem dX0_canBe_20 : decode cX0_canBe 20 = .ok (.istore 4, 2) := dk_54 4 (dk_at dksX0_canBe_0 20 rfl rfl)
theorem dX0_canBe_22 : decode cX0_canBe 22 = .ok (.aload_n 0, 1) := dk_42 (dk_at dksX0_canBe_0 22 rfl rfl)
theorem dX0_canBe_23 : decode cX0_canBe 23 = .ok (.iload 4, 2) := dk_21 4 (dk_at dksX0_canBe_1 0 rfl rfl)
theorem dX0_canBe_25 : decode cX0_canBe 25 = .ok (.iconst 0, 1) := dk_3 (dk_at dksX0_canBe_1 2 rfl rfl)
theorem dX0_canBe_26 : decode cX0_canBe 26 = .ok (.bipush 30, 2) := dk_16 30 (dk_at dksX0_canBe_1 3 rfl rfl)
theorem dX0_canBe_28 : decode cX0_canBe 28 = .ok (.invokevirtual 291, 3) := dk_182 1 35 (dk_at dksX0_canBe_1 5 rfl rfl)
theorem dX0_canBe_31 : decode cX0_canBe 31 = .ok (.ifCond .eq 118, 3) := dk_153 0 118 (dk_at dksX0_canBe_1 8 rfl rfl)
theorem dX0_canBe_34 : decode cX0_canBe 34 = .ok (.iconst 0, 1) := dk_3 (dk_at dksX0_canBe_1 11 rfl rfl)
theorem dX0_canBe_35 : decode cX0_canBe 35 = .ok (.istore 5, 2) := dk_54 5 (dk_at dksX0_canBe_1 12 rfl rfl)
theorem dX0_canBe_37 : decode cX0_canBe 37 = .ok (.iload 5, 2) := dk_21 5 (dk_at dksX0_canBe_1 14 rfl rfl)
theorem dX0_canBe_39 : decode cX0_canBe 39 = .ok (.bipush 8, 2) := dk_16 8 (dk_at dksX0_canBe_1 16 rfl rfl)
theorem dX0_canBe_41 : decode cX0_canBe 41 = .ok (.if_icmp .ge 31, 3) := dk_162 0 31 (dk_at dksX0_canBe_1 18 rfl rfl)
theorem dX0_canBe_44 : decode cX0_canBe 44 = .ok (.aload_n 0, 1) := dk_42 (dk_at dksX0_canBe_1 21 rfl rfl)
theorem dX0_canBe_45 : decode cX0_canBe 45 = .ok (.getfield 108, 3) := dk_180 0 108 (dk_at dksX0_canBe_2 0 rfl rfl)
theorem dX0_canBe_48 : decode cX0_canBe 48 = .ok (.iload_n 2, 1) := dk_28 (dk_at dksX0_canBe_2 3 rfl rfl)
theorem dX0_canBe_49 : decode cX0_canBe 49 = .ok (.aaload, 1) := dk_50 (dk_at dksX0_canBe_2 4 rfl rfl)
theorem dX0_canBe_50 : decode cX0_canBe 50 = .ok (.iload 4, 2) := dk_21 4 (dk_at dksX0_canBe_2 5 rfl rfl)
theorem dX0_canBe_52 : decode cX0_canBe 52 = .ok (.aaload, 1) := dk_50 (dk_at dksX0_canBe_2 7 rfl rfl)
theorem dX0_canBe_53 : decode cX0_canBe 53 = .ok (.iload 5, 2) := dk_21 5 (dk_at dksX0_canBe_2 8 rfl rfl)
theorem dX0_canBe_55 : decode cX0_canBe 55 = .ok (.aload_n 0, 1) := dk_42 (dk_at dksX0_canBe_2 10 rfl rfl)
theorem dX0_canBe_56 : decode cX0_canBe 56 = .ok (.getfield 78, 3) := dk_180 0 78 (dk_at dksX0_canBe_2 11 rfl rfl)
theorem dX0_canBe_59 : decode cX0_canBe 59 = .ok (.getfield 254, 3) := dk_180 0 254 (dk_at dksX0_canBe_2 14 rfl rfl)
theorem dX0_canBe_62 : decode cX0_canBe 62 = .ok (.iload 5, 2) := dk_21 5 (dk_at dksX0_canBe_2 17 rfl rfl)
theorem dX0_canBe_64 : decode cX0_canBe 64 = .ok (.iaload, 1) := dk_46 (dk_at dksX0_canBe_2 19 rfl rfl)
theorem dX0_canBe_65 : decode cX0_canBe 65 = .ok (.iastore, 1) := dk_79 (dk_at dksX0_canBe_2 20 rfl rfl)
theorem dX0_canBe_66 : decode cX0_canBe 66 = .ok (.iinc 5 1, 3) := dk_132 5 1 (dk_at dksX0_canBe_2 21 rfl rfl)
theorem dX0_canBe_69 : decode cX0_canBe 69 = .ok (.goto (-32), 3) := dk_167 255 224 (dk_at dksX0_canBe_3 0 rfl rfl)
theorem dX0_canBe_72 : decode cX0_canBe 72 = .ok (.iconst 0, 1) := dk_3 (dk_at dksX0_canBe_3 3 rfl rfl)
theorem dX0_canBe_73 : decode cX0_canBe 73 = .ok (.istore 5, 2) := dk_54 5 (dk_at dksX0_canBe_3 4 rfl rfl)
theorem dX0_canBe_75 : decode cX0_canBe 75 = .ok (.iload 5, 2) := dk_21 5 (dk_at dksX0_canBe_3 6 rfl rfl)
theorem dX0_canBe_77 : decode cX0_canBe 77 = .ok (.aload_n 0, 1) := dk_42 (dk_at dksX0_canBe_3 8 rfl rfl)
theorem dX0_canBe_78 : decode cX0_canBe 78 = .ok (.getfield 158, 3) := dk_180 0 158 (dk_at dksX0_canBe_3 9 rfl rfl)
theorem dX0_canBe_81 : decode cX0_canBe 81 = .ok (.if_icmp .ge 54, 3) := dk_162 0 54 (dk_at dksX0_canBe_3 12 rfl rfl)
theorem dX0_canBe_84 : decode cX0_canBe 84 = .ok (.iload_n 3, 1) := dk_29 (dk_at dksX0_canBe_3 15 rfl rfl)
theorem dX0_canBe_85 : decode cX0_canBe 85 = .ok (.aload_n 0, 1) := dk_42 (dk_at dksX0_canBe_3 16 rfl rfl)
theorem dX0_canBe_86 : decode cX0_canBe 86 = .ok (.getfield 97, 3) := dk_180 0 97 (dk_at dksX0_canBe_3 17 rfl rfl)
theorem dX0_canBe_89 : decode cX0_canBe 89 = .ok (.iload 5, 2) := dk_21 5 (dk_at dksX0_canBe_3 20 rfl rfl)
theorem dX0_canBe_91 : decode cX0_canBe 91 = .ok (.iaload, 1) := dk_46 (dk_at dksX0_canBe_3 22 rfl rfl)
theorem dX0_canBe_92 : decode cX0_canBe 92 = .ok (.iload 4, 2) := dk_21 4 (dk_at dksX0_canBe_4 0 rfl rfl)
theorem dX0_canBe_94 : decode cX0_canBe 94 = .ok (.if_icmp .ne 32, 3) := dk_160 0 32 (dk_at dksX0_canBe_4 2 rfl rfl)
theorem dX0_canBe_97 : decode cX0_canBe 97 = .ok (.aload_n 0, 1) := dk_42 (dk_at dksX0_canBe_4 5 rfl rfl)
theorem dX0_canBe_98 : decode cX0_canBe 98 = .ok (.getfield 78, 3) := dk_180 0 78 (dk_at dksX0_canBe_4 6 rfl rfl)
theorem dX0_canBe_101 : decode cX0_canBe 101 = .ok (.getfield 254, 3) := dk_180 0 254 (dk_at dksX0_canBe_4 9 rfl rfl)
theorem dX0_canBe_104 : decode cX0_canBe 104 = .ok (.aload_n 0, 1) := dk_42 (dk_at dksX0_canBe_4 12 rfl rfl)
theorem dX0_canBe_105 : decode cX0_canBe 105 = .ok (.getfield 100, 3) := dk_180 0 100 (dk_at dksX0_canBe_4 13 rfl rfl)
theorem dX0_canBe_108 : decode cX0_canBe 108 = .ok (.iload 5, 2) := dk_21 5 (dk_at dksX0_canBe_4 16 rfl rfl)
theorem dX0_canBe_110 : decode cX0_canBe 110 = .ok (.iaload, 1) := dk_46 (dk_at dksX0_canBe_4 18 rfl rfl)
theorem dX0_canBe_111 : decode cX0_canBe 111 = .ok (.iaload, 1) := dk_46 (dk_at dksX0_canBe_4 19 rfl rfl)
theorem dX0_canBe_112 : decode cX0_canBe 112 = .ok (.aload_n 0, 1) := dk_42 (dk_at dksX0_canBe_4 20 rfl rfl)
theorem dX0_canBe_113 : decode cX0_canBe 113 = .ok (.getfield 103, 3) := dk_180 0 103 (dk_at dksX0_canBe_4 21 rfl rfl)
theorem dX0_canBe_116 : decode cX0_canBe 116 = .ok (.iload 5, 2) := dk_21 5 (dk_at dksX0_canBe_5 0 rfl rfl)
theorem dX0_canBe_118 : decode cX0_canBe 118 = .ok (.iaload, 1) := dk_46 (dk_at dksX0_canBe_5 2 rfl rfl)
theorem dX0_canBe_119 : decode cX0_canBe 119 = .ok (.if_icmp .ne 7, 3) := dk_160 0 7 (dk_at dksX0_canBe_5 3 rfl rfl)
theorem dX0_canBe_122 : decode cX0_canBe 122 = .ok (.iconst 1, 1) := dk_4 (dk_at dksX0_canBe_5 6 rfl rfl)
theorem dX0_canBe_123 : decode cX0_canBe 123 = .ok (.goto 4, 3) := dk_167 0 4 (dk_at dksX0_canBe_5 7 rfl rfl)
theorem dX0_canBe_126 : decode cX0_canBe 126 = .ok (.iconst 0, 1) := dk_3 (dk_at dksX0_canBe_5 10 rfl rfl)
theorem dX0_canBe_127 : decode cX0_canBe 127 = .ok (.iadd, 1) := dk_96 (dk_at dksX0_canBe_5 11 rfl rfl)
theorem dX0_canBe_128 : decode cX0_canBe 128 = .ok (.istore_n 3, 1) := dk_62 (dk_at dksX0_canBe_5 12 rfl rfl)
theorem dX0_canBe_129 : decode cX0_canBe 129 = .ok (.iinc 5 1, 3) := dk_132 5 1 (dk_at dksX0_canBe_5 13 rfl rfl)
theorem dX0_canBe_132 : decode cX0_canBe 132 = .ok (.goto (-57), 3) := dk_167 255 199 (dk_at dksX0_canBe_5 16 rfl rfl)
theorem dX0_canBe_135 : decode cX0_canBe 135 = .ok (.aload_n 0, 1) := dk_42 (dk_at dksX0_canBe_5 19 rfl rfl)
theorem dX0_canBe_136 : decode cX0_canBe 136 = .ok (.getfield 78, 3) := dk_180 0 78 (dk_at dksX0_canBe_5 20 rfl rfl)
theorem dX0_canBe_139 : decode cX0_canBe 139 = .ok (.invokevirtual 304, 3) := dk_182 1 48 (dk_at dksX0_canBe_6 0 rfl rfl)
theorem dX0_canBe_142 : decode cX0_canBe 142 = .ok (.pop, 1) := dk_87 (dk_at dksX0_canBe_6 3 rfl rfl)
theorem dX0_canBe_143 : decode cX0_canBe 143 = .ok (.iinc 4 1, 3) := dk_132 4 1 (dk_at dksX0_canBe_6 4 rfl rfl)
theorem dX0_canBe_146 : decode cX0_canBe 146 = .ok (.goto (-124), 3) := dk_167 255 132 (dk_at dksX0_canBe_6 7 rfl rfl)
theorem dX0_canBe_149 : decode cX0_canBe 149 = .ok (.iload_n 3, 1) := dk_29 (dk_at dksX0_canBe_6 10 rfl rfl)
theorem dX0_canBe_150 : decode cX0_canBe 150 = .ok (.aload_n 0, 1) := dk_42 (dk_at dksX0_canBe_6 11 rfl rfl)
theorem dX0_canBe_151 : decode cX0_canBe 151 = .ok (.getfield 158, 3) := dk_180 0 158 (dk_at dksX0_canBe_6 12 rfl rfl)
theorem dX0_canBe_154 : decode cX0_canBe 154 = .ok (.if_icmp .ne 7, 3) := dk_160 0 7 (dk_at dksX0_canBe_6 15 rfl rfl)
theorem dX0_canBe_157 : decode cX0_canBe 157 = .ok (.iconst 1, 1) := dk_4 (dk_at dksX0_canBe_6 18 rfl rfl)
theorem dX0_canBe_158 : decode cX0_canBe 158 = .ok (.goto 4, 3) := dk_167 0 4 (dk_at dksX0_canBe_6 19 rfl rfl)
theorem dX0_canBe_161 : decode cX0_canBe 161 = .ok (.iconst 0, 1) := dk_3 (dk_at dksX0_canBe_6 22 rfl rfl)
theorem dX0_canBe_162 : decode cX0_canBe 162 = .ok (.ireturn, 1) := dk_172 (dk_at dksX0_canBe_6 23 rfl rfl)
abbrev cX0_tells : ByteArray := prog_1_method_53_code
def yX0_tells : MethodName := ⟨RX0, "tells", "(II)I"⟩
def dkwX0_tells_5 : List UInt8 := [21, 4, 16, 8, 108, 167, 0, 18, 28, 4, 160, 0, 11, 21, 4, 16, 8, 112, 167, 0, 5, 21, 5, 172]
abbrev dktX0_tells_5 : List UInt8 := dkwX0_tells_5 ++ []
def dkwX0_tells_4 : List UInt8 := [167, 255, 209, 132, 6, 1, 167, 255, 188, 21, 4, 2, 160, 0, 7, 2, 167, 0, 30, 28, 154, 0, 11]
abbrev dktX0_tells_4 : List UInt8 := dkwX0_tells_4 ++ dktX0_tells_5
def dkwX0_tells_3 : List UInt8 := [161, 0, 6, 167, 0, 17, 21, 8, 54, 5, 16, 8, 21, 6, 104, 21, 7, 96, 54, 4, 132, 7, 1]
abbrev dktX0_tells_3 : List UInt8 := dkwX0_tells_3 ++ dktX0_tells_4
def dkwX0_tells_2 : List UInt8 := [42, 182, 0, 181, 162, 0, 44, 42, 29, 21, 6, 21, 7, 182, 1, 100, 54, 8, 21, 8, 21, 5]
abbrev dktX0_tells_2 : List UInt8 := dkwX0_tells_2 ++ dktX0_tells_3
def dkwX0_tells_1 : List UInt8 := [18, 193, 54, 5, 4, 54, 6, 42, 21, 6, 4, 16, 30, 182, 1, 35, 153, 0, 62, 3, 54, 7, 21, 7]
abbrev dktX0_tells_1 : List UInt8 := dkwX0_tells_1 ++ dktX0_tells_2
def dkwX0_tells_0 : List UInt8 := [42, 27, 182, 1, 97, 62, 29, 158, 0, 12, 28, 3, 5, 184, 0, 231, 154, 0, 5, 2, 172, 2, 54, 4]
abbrev dktX0_tells_0 : List UInt8 := dkwX0_tells_0 ++ dktX0_tells_1
theorem dksX0_tells_0 : cX0_tells.data.toList.drop 0 = dktX0_tells_0 := by decide +kernel
theorem dksX0_tells_1 : cX0_tells.data.toList.drop 24 = dktX0_tells_1 := dk_seg dksX0_tells_0 24 rfl rfl
theorem dksX0_tells_2 : cX0_tells.data.toList.drop 48 = dktX0_tells_2 := dk_seg dksX0_tells_1 24 rfl rfl
theorem dksX0_tells_3 : cX0_tells.data.toList.drop 70 = dktX0_tells_3 := dk_seg dksX0_tells_2 22 rfl rfl
theorem dksX0_tells_4 : cX0_tells.data.toList.drop 93 = dktX0_tells_4 := dk_seg dksX0_tells_3 23 rfl rfl
theorem dksX0_tells_5 : cX0_tells.data.toList.drop 116 = dktX0_tells_5 := dk_seg dksX0_tells_4 23 rfl rfl
theorem dX0_tells_0 : decode cX0_tells 0 = .ok (.aload_n 0, 1) := dk_42 (dk_at dksX0_tells_0 0 rfl rfl)
theorem dX0_tells_1 : decode cX0_tells 1 = .ok (.iload_n 1, 1) := dk_27 (dk_at dksX0_tells_0 1 rfl rfl)
theorem dX0_tells_2 : decode cX0_tells 2 = .ok (.invokevirtual 353, 3) := dk_182 1 97 (dk_at dksX0_tells_0 2 rfl rfl)
theorem dX0_tells_5 : decode cX0_tells 5 = .ok (.istore_n 3, 1) := dk_62 (dk_at dksX0_tells_0 5 rfl rfl)
theorem dX0_tells_6 : decode cX0_tells 6 = .ok (.iload_n 3, 1) := dk_29 (dk_at dksX0_tells_0 6 rfl rfl)
theorem dX0_tells_7 : decode cX0_tells 7 = .ok (.ifCond .le 12, 3) := dk_158 0 12 (dk_at dksX0_tells_0 7 rfl rfl)
theorem dX0_tells_10 : decode cX0_tells 10 = .ok (.iload_n 2, 1) := dk_28 (dk_at dksX0_tells_0 10 rfl rfl)
theorem dX0_tells_11 : decode cX0_tells 11 = .ok (.iconst 0, 1) := dk_3 (dk_at dksX0_tells_0 11 rfl rfl)
theorem dX0_tells_12 : decode cX0_tells 12 = .ok (.iconst 2, 1) := dk_5 (dk_at dksX0_tells_0 12 rfl rfl)
theorem dX0_tells_13 : decode cX0_tells 13 = .ok (.invokestatic 231, 3) := dk_184 0 231 (dk_at dksX0_tells_0 13 rfl rfl)
theorem dX0_tells_16 : decode cX0_tells 16 = .ok (.ifCond .ne 5, 3) := dk_154 0 5 (dk_at dksX0_tells_0 16 rfl rfl)
theorem dX0_tells_19 : decode cX0_tells 19 = .ok (.iconst (-1), 1) := dk_2 (dk_at dksX0_tells_0 19 rfl rfl)
theorem dX0_tells_20 : decode cX0_tells 20 = .ok (.ireturn, 1) := dk_172 (dk_at dksX0_tells_0 20 rfl rfl)
theorem dX0_tells_21 : decode cX0_tells 21 = .ok (.iconst (-1), 1) := dk_2 (dk_at dksX0_tells_0 21 rfl rfl)
theorem dX0_tells_22 : decode cX0_tells 22 = .ok (.istore 4, 2) := dk_54 4 (dk_at dksX0_tells_0 22 rfl rfl)
theorem dX0_tells_24 : decode cX0_tells 24 = .ok (.ldc 193, 2) := dk_18 193 (dk_at dksX0_tells_1 0 rfl rfl)
theorem dX0_tells_26 : decode cX0_tells 26 = .ok (.istore 5, 2) := dk_54 5 (dk_at dksX0_tells_1 2 rfl rfl)
theorem dX0_tells_28 : decode cX0_tells 28 = .ok (.iconst 1, 1) := dk_4 (dk_at dksX0_tells_1 4 rfl rfl)
theorem dX0_tells_29 : decode cX0_tells 29 = .ok (.istore 6, 2) := dk_54 6 (dk_at dksX0_tells_1 5 rfl rfl)
theorem dX0_tells_31 : decode cX0_tells 31 = .ok (.aload_n 0, 1) := dk_42 (dk_at dksX0_tells_1 7 rfl rfl)
theorem dX0_tells_32 : decode cX0_tells 32 = .ok (.iload 6, 2) := dk_21 6 (dk_at dksX0_tells_1 8 rfl rfl)
theorem dX0_tells_34 : decode cX0_tells 34 = .ok (.iconst 1, 1) := dk_4 (dk_at dksX0_tells_1 10 rfl rfl)
theorem dX0_tells_35 : decode cX0_tells 35 = .ok (.bipush 30, 2) := dk_16 30 (dk_at dksX0_tells_1 11 rfl rfl)
theorem dX0_tells_37 : decode cX0_tells 37 = .ok (.invokevirtual 291, 3) := dk_182 1 35 (dk_at dksX0_tells_1 13 rfl rfl)
theorem dX0_tells_40 : decode cX0_tells 40 = .ok (.ifCond .eq 62, 3) := dk_153 0 62 (dk_at dksX0_tells_1 16 rfl rfl)
theorem dX0_tells_43 : decode cX0_tells 43 = .ok (.iconst 0, 1) := dk_3 (dk_at dksX0_tells_1 19 rfl rfl)
theorem dX0_tells_44 : decode cX0_tells 44 = .ok (.istore 7, 2) := dk_54 7 (dk_at dksX0_tells_1 20 rfl rfl)
theorem dX0_tells_46 : decode cX0_tells 46 = .ok (.iload 7, 2) := dk_21 7 (dk_at dksX0_tells_1 22 rfl rfl)
theorem dX0_tells_48 : decode cX0_tells 48 = .ok (.aload_n 0, 1) := dk_42 (dk_at dksX0_tells_2 0 rfl rfl)
theorem dX0_tells_49 : decode cX0_tells 49 = .ok (.invokevirtual 181, 3) := dk_182 0 181 (dk_at dksX0_tells_2 1 rfl rfl)
theorem dX0_tells_52 : decode cX0_tells 52 = .ok (.if_icmp .ge 44, 3) := dk_162 0 44 (dk_at dksX0_tells_2 4 rfl rfl)
theorem dX0_tells_55 : decode cX0_tells 55 = .ok (.aload_n 0, 1) := dk_42 (dk_at dksX0_tells_2 7 rfl rfl)
theorem dX0_tells_56 : decode cX0_tells 56 = .ok (.iload_n 3, 1) := dk_29 (dk_at dksX0_tells_2 8 rfl rfl)
theorem dX0_tells_57 : decode cX0_tells 57 = .ok (.iload 6, 2) := dk_21 6 (dk_at dksX0_tells_2 9 rfl rfl)
theorem dX0_tells_59 : decode cX0_tells 59 = .ok (.iload 7, 2) := dk_21 7 (dk_at dksX0_tells_2 11 rfl rfl)
theorem dX0_tells_61 : decode cX0_tells 61 = .ok (.invokevirtual 356, 3) := dk_182 1 100 (dk_at dksX0_tells_2 13 rfl rfl)
theorem dX0_tells_64 : decode cX0_tells 64 = .ok (.istore 8, 2) := dk_54 8 (dk_at dksX0_tells_2 16 rfl rfl)
theorem dX0_tells_66 : decode cX0_tells 66 = .ok (.iload 8, 2) := dk_21 8 (dk_at dksX0_tells_2 18 rfl rfl)
theorem dX0_tells_68 : decode cX0_tells 68 = .ok (.iload 5, 2) := dk_21 5 (dk_at dksX0_tells_2 20 rfl rfl)
theorem dX0_tells_70 : decode cX0_tells 70 = .ok (.if_icmp .lt 6, 3) := dk_161 0 6 (dk_at dksX0_tells_3 0 rfl rfl)
theorem dX0_tells_73 : decode cX0_tells 73 = .ok (.goto 17, 3) := dk_167 0 17 (dk_at dksX0_tells_3 3 rfl rfl)
theorem dX0_tells_76 : decode cX0_tells 76 = .ok (.iload 8, 2) := dk_21 8 (dk_at dksX0_tells_3 6 rfl rfl)
theorem dX0_tells_78 : decode cX0_tells 78 = .ok (.istore 5, 2) := dk_54 5 (dk_at dksX0_tells_3 8 rfl rfl)
theorem dX0_tells_80 : decode cX0_tells 80 = .ok (.bipush 8, 2) := dk_16 8 (dk_at dksX0_tells_3 10 rfl rfl)
theorem dX0_tells_82 : decode cX0_tells 82 = .ok (.iload 6, 2) := dk_21 6 (dk_at dksX0_tells_3 12 rfl rfl)
theorem dX0_tells_84 : decode cX0_tells 84 = .ok (.imul, 1) := dk_104 (dk_at dksX0_tells_3 14 rfl rfl)
theorem dX0_tells_85 : decode cX0_tells 85 = .ok (.iload 7, 2) := dk_21 7 (dk_at dksX0_tells_3 15 rfl rfl)
theorem dX0_tells_87 : decode cX0_tells 87 = .ok (.iadd, 1) := dk_96 (dk_at dksX0_tells_3 17 rfl rfl)
theorem dX0_tells_88 : decode cX0_tells 88 = .ok (.istore 4, 2) := dk_54 4 (dk_at dksX0_tells_3 18 rfl rfl)
theorem dX0_tells_90 : decode cX0_tells 90 = .ok (.iinc 7 1, 3) := dk_132 7 1 (dk_at dksX0_tells_3 20 rfl rfl)
theorem dX0_tells_93 : decode cX0_tells 93 = .ok (.goto (-47), 3) := dk_167 255 209 (dk_at dksX0_tells_4 0 rfl rfl)
theorem dX0_tells_96 : decode cX0_tells 96 = .ok (.iinc 6 1, 3) := dk_132 6 1 (dk_at dksX0_tells_4 3 rfl rfl)
theorem dX0_tells_99 : decode cX0_tells 99 = .ok (.goto (-68), 3) := dk_167 255 188 (dk_at dksX0_tells_4 6 rfl rfl)
theorem dX0_tells_102 : decode cX0_tells 102 = .ok (.iload 4, 2) := dk_21 4 (dk_at dksX0_tells_4 9 rfl rfl)
theorem dX0_tells_104 : decode cX0_tells 104 = .ok (.iconst (-1), 1) := dk_2 (dk_at dksX0_tells_4 11 rfl rfl)
theorem dX0_tells_105 : decode cX0_tells 105 = .ok (.if_icmp .ne 7, 3) := dk_160 0 7 (dk_at dksX0_tells_4 12 rfl rfl)
theorem dX0_tells_108 : decode cX0_tells 108 = .ok (.iconst (-1), 1) := dk_2 (dk_at dksX0_tells_4 15 rfl rfl)
theorem dX0_tells_109 : decode cX0_tells 109 = .ok (.goto 30, 3) := dk_167 0 30 (dk_at dksX0_tells_4 16 rfl rfl)
theorem dX0_tells_112 : decode cX0_tells 112 = .ok (.iload_n 2, 1) := dk_28 (dk_at dksX0_tells_4 19 rfl rfl)
theorem dX0_tells_113 : decode cX0_tells 113 = .ok (.ifCond .ne 11, 3) := dk_154 0 11 (dk_at dksX0_tells_4 20 rfl rfl)
theorem dX0_tells_116 : decode cX0_tells 116 = .ok (.iload 4, 2) := dk_21 4 (dk_at dksX0_tells_5 0 rfl rfl)
theorem dX0_tells_118 : decode cX0_tells 118 = .ok (.bipush 8, 2) := dk_16 8 (dk_at dksX0_tells_5 2 rfl rfl)
theorem dX0_tells_120 : decode cX0_tells 120 = .ok (.idiv, 1) := dk_108 (dk_at dksX0_tells_5 4 rfl rfl)
theorem dX0_tells_121 : decode cX0_tells 121 = .ok (.goto 18, 3) := dk_167 0 18 (dk_at dksX0_tells_5 5 rfl rfl)
theorem dX0_tells_124 : decode cX0_tells 124 = .ok (.iload_n 2, 1) := dk_28 (dk_at dksX0_tells_5 8 rfl rfl)
theorem dX0_tells_125 : decode cX0_tells 125 = .ok (.iconst 1, 1) := dk_4 (dk_at dksX0_tells_5 9 rfl rfl)
theorem dX0_tells_126 : decode cX0_tells 126 = .ok (.if_icmp .ne 11, 3) := dk_160 0 11 (dk_at dksX0_tells_5 10 rfl rfl)
theorem dX0_tells_129 : decode cX0_tells 129 = .ok (.iload 4, 2) := dk_21 4 (dk_at dksX0_tells_5 13 rfl rfl)
theorem dX0_tells_131 : decode cX0_tells 131 = .ok (.bipush 8, 2) := dk_16 8 (dk_at dksX0_tells_5 15 rfl rfl)
theorem dX0_tells_133 : decode cX0_tells 133 = .ok (.irem, 1) := dk_112 (dk_at dksX0_tells_5 17 rfl rfl)
theorem dX0_tells_134 : decode cX0_tells 134 = .ok (.goto 5, 3) := dk_167 0 5 (dk_at dksX0_tells_5 18 rfl rfl)
theorem dX0_tells_137 : decode cX0_tells 137 = .ok (.iload 5, 2) := dk_21 5 (dk_at dksX0_tells_5 21 rfl rfl)
theorem dX0_tells_139 : decode cX0_tells 139 = .ok (.ireturn, 1) := dk_172 (dk_at dksX0_tells_5 23 rfl rfl)
abbrev cX0_mostBy : ByteArray := prog_1_method_52_code
def yX0_mostBy : MethodName := ⟨RX0, "mostBy", "(III)I"⟩
def dkwX0_mostBy_4 : List UInt8 := [132, 5, 1, 167, 255, 165, 21, 4, 172]
abbrev dktX0_mostBy_4 : List UInt8 := dkwX0_mostBy_4 ++ []
def dkwX0_mostBy_3 : List UInt8 := [4, 167, 0, 4, 3, 96, 54, 6, 132, 7, 1, 167, 255, 193, 21, 4, 21, 6, 184, 1, 95, 54, 4]
abbrev dktX0_mostBy_3 : List UInt8 := dkwX0_mostBy_3 ++ dktX0_mostBy_4
def dkwX0_mostBy_2 : List UInt8 := [180, 0, 108, 21, 5, 50, 28, 50, 29, 46, 42, 180, 0, 108, 21, 7, 50, 28, 50, 29, 46, 160, 0, 7]
abbrev dktX0_mostBy_2 : List UInt8 := dkwX0_mostBy_2 ++ dktX0_mostBy_3
def dkwX0_mostBy_1 : List UInt8 := [162, 0, 62, 21, 6, 27, 21, 5, 184, 1, 20, 153, 0, 41, 27, 21, 7, 184, 1, 20, 153, 0, 32, 42]
abbrev dktX0_mostBy_1 : List UInt8 := dkwX0_mostBy_1 ++ dktX0_mostBy_2
def dkwX0_mostBy_0 : List UInt8 := [3, 54, 4, 3, 54, 5, 21, 5, 16, 10, 162, 0, 90, 3, 54, 6, 3, 54, 7, 21, 7, 16, 10]
abbrev dktX0_mostBy_0 : List UInt8 := dkwX0_mostBy_0 ++ dktX0_mostBy_1
theorem dksX0_mostBy_0 : cX0_mostBy.data.toList.drop 0 = dktX0_mostBy_0 := by decide +kernel
theorem dksX0_mostBy_1 : cX0_mostBy.data.toList.drop 23 = dktX0_mostBy_1 := dk_seg dksX0_mostBy_0 23 rfl rfl
theorem dksX0_mostBy_2 : cX0_mostBy.data.toList.drop 47 = dktX0_mostBy_2 := dk_seg dksX0_mostBy_1 24 rfl rfl
theorem dksX0_mostBy_3 : cX0_mostBy.data.toList.drop 71 = dktX0_mostBy_3 := dk_seg dksX0_mostBy_2 24 rfl rfl
theorem dksX0_mostBy_4 : cX0_mostBy.data.toList.drop 94 = dktX0_mostBy_4 := dk_seg dksX0_mostBy_3 23 rfl rfl
theorem dX0_mostBy_0 : decode cX0_mostBy 0 = .ok (.iconst 0, 1) := dk_3 (dk_at dksX0_mostBy_0 0 rfl rfl)
theorem dX0_mostBy_1 : decode cX0_mostBy 1 = .ok (.istore 4, 2) := dk_54 4 (dk_at dksX0_mostBy_0 1 rfl rfl)
theorem dX0_mostBy_3 : decode cX0_mostBy 3 = .ok (.iconst 0, 1) := dk_3 (dk_at dksX0_mostBy_0 3 rfl rfl)
theorem dX0_mostBy_4 : decode cX0_mostBy 4 = .ok (.istore 5, 2) := dk_54 5 (dk_at dksX0_mostBy_0 4 rfl rfl)
theorem dX0_mostBy_6 : decode cX0_mostBy 6 = .ok (.iload 5, 2) := dk_21 5 (dk_at dksX0_mostBy_0 6 rfl rfl)
theorem dX0_mostBy_8 : decode cX0_mostBy 8 = .ok (.bipush 10, 2) := dk_16 10 (dk_at dksX0_mostBy_0 8 rfl rfl)
theorem dX0_mostBy_10 : decode cX0_mostBy 10 = .ok (.if_icmp .ge 90, 3) := dk_162 0 90 (dk_at dksX0_mostBy_0 10 rfl rfl)
theorem dX0_mostBy_13 : decode cX0_mostBy 13 = .ok (.iconst 0, 1) := dk_3 (dk_at dksX0_mostBy_0 13 rfl rfl)
theorem dX0_mostBy_14 : decode cX0_mostBy 14 = .ok (.istore 6, 2) := dk_54 6 (dk_at dksX0_mostBy_0 14 rfl rfl)
theorem dX0_mostBy_16 : decode cX0_mostBy 16 = .ok (.iconst 0, 1) := dk_3 (dk_at dksX0_mostBy_0 16 rfl rfl)
theorem dX0_mostBy_17 : decode cX0_mostBy 17 = .ok (.istore 7, 2) := dk_54 7 (dk_at dksX0_mostBy_0 17 rfl rfl)
theorem dX0_mostBy_19 : decode cX0_mostBy 19 = .ok (.iload 7, 2) := dk_21 7 (dk_at dksX0_mostBy_0 19 rfl rfl)
theorem dX0_mostBy_21 : decode cX0_mostBy 21 = .ok (.bipush 10, 2) := dk_16 10 (dk_at dksX0_mostBy_0 21 rfl rfl)
theorem dX0_mostBy_23 : decode cX0_mostBy 23 = .ok (.if_icmp .ge 62, 3) := dk_162 0 62 (dk_at dksX0_mostBy_1 0 rfl rfl)
theorem dX0_mostBy_26 : decode cX0_mostBy 26 = .ok (.iload 6, 2) := dk_21 6 (dk_at dksX0_mostBy_1 3 rfl rfl)
theorem dX0_mostBy_28 : decode cX0_mostBy 28 = .ok (.iload_n 1, 1) := dk_27 (dk_at dksX0_mostBy_1 5 rfl rfl)
theorem dX0_mostBy_29 : decode cX0_mostBy 29 = .ok (.iload 5, 2) := dk_21 5 (dk_at dksX0_mostBy_1 6 rfl rfl)
theorem dX0_mostBy_31 : decode cX0_mostBy 31 = .ok (.invokestatic 276, 3) := dk_184 1 20 (dk_at dksX0_mostBy_1 8 rfl rfl)
theorem dX0_mostBy_34 : decode cX0_mostBy 34 = .ok (.ifCond .eq 41, 3) := dk_153 0 41 (dk_at dksX0_mostBy_1 11 rfl rfl)
theorem dX0_mostBy_37 : decode cX0_mostBy 37 = .ok (.iload_n 1, 1) := dk_27 (dk_at dksX0_mostBy_1 14 rfl rfl)
theorem dX0_mostBy_38 : decode cX0_mostBy 38 = .ok (.iload 7, 2) := dk_21 7 (dk_at dksX0_mostBy_1 15 rfl rfl)
theorem dX0_mostBy_40 : decode cX0_mostBy 40 = .ok (.invokestatic 276, 3) := dk_184 1 20 (dk_at dksX0_mostBy_1 17 rfl rfl)
theorem dX0_mostBy_43 : decode cX0_mostBy 43 = .ok (.ifCond .eq 32, 3) := dk_153 0 32 (dk_at dksX0_mostBy_1 20 rfl rfl)
theorem dX0_mostBy_46 : decode cX0_mostBy 46 = .ok (.aload_n 0, 1) := dk_42 (dk_at dksX0_mostBy_1 23 rfl rfl)
theorem dX0_mostBy_47 : decode cX0_mostBy 47 = .ok (.getfield 108, 3) := dk_180 0 108 (dk_at dksX0_mostBy_2 0 rfl rfl)
theorem dX0_mostBy_50 : decode cX0_mostBy 50 = .ok (.iload 5, 2) := dk_21 5 (dk_at dksX0_mostBy_2 3 rfl rfl)
theorem dX0_mostBy_52 : decode cX0_mostBy 52 = .ok (.aaload, 1) := dk_50 (dk_at dksX0_mostBy_2 5 rfl rfl)
theorem dX0_mostBy_53 : decode cX0_mostBy 53 = .ok (.iload_n 2, 1) := dk_28 (dk_at dksX0_mostBy_2 6 rfl rfl)
theorem dX0_mostBy_54 : decode cX0_mostBy 54 = .ok (.aaload, 1) := dk_50 (dk_at dksX0_mostBy_2 7 rfl rfl)
theorem dX0_mostBy_55 : decode cX0_mostBy 55 = .ok (.iload_n 3, 1) := dk_29 (dk_at dksX0_mostBy_2 8 rfl rfl)
theorem dX0_mostBy_56 : decode cX0_mostBy 56 = .ok (.iaload, 1) := dk_46 (dk_at dksX0_mostBy_2 9 rfl rfl)
theorem dX0_mostBy_57 : decode cX0_mostBy 57 = .ok (.aload_n 0, 1) := dk_42 (dk_at dksX0_mostBy_2 10 rfl rfl)
theorem dX0_mostBy_58 : decode cX0_mostBy 58 = .ok (.getfield 108, 3) := dk_180 0 108 (dk_at dksX0_mostBy_2 11 rfl rfl)
theorem dX0_mostBy_61 : decode cX0_mostBy 61 = .ok (.iload 7, 2) := dk_21 7 (dk_at dksX0_mostBy_2 14 rfl rfl)
theorem dX0_mostBy_63 : decode cX0_mostBy 63 = .ok (.aaload, 1) := dk_50 (dk_at dksX0_mostBy_2 16 rfl rfl)
theorem dX0_mostBy_64 : decode cX0_mostBy 64 = .ok (.iload_n 2, 1) := dk_28 (dk_at dksX0_mostBy_2 17 rfl rfl)
theorem dX0_mostBy_65 : decode cX0_mostBy 65 = .ok (.aaload, 1) := dk_50 (dk_at dksX0_mostBy_2 18 rfl rfl)
theorem dX0_mostBy_66 : decode cX0_mostBy 66 = .ok (.iload_n 3, 1) := dk_29 (dk_at dksX0_mostBy_2 19 rfl rfl)
theorem dX0_mostBy_67 : decode cX0_mostBy 67 = .ok (.iaload, 1) := dk_46 (dk_at dksX0_mostBy_2 20 rfl rfl)
theorem dX0_mostBy_68 : decode cX0_mostBy 68 = .ok (.if_icmp .ne 7, 3) := dk_160 0 7 (dk_at dksX0_mostBy_2 21 rfl rfl)
theorem dX0_mostBy_71 : decode cX0_mostBy 71 = .ok (.iconst 1, 1) := dk_4 (dk_at dksX0_mostBy_3 0 rfl rfl)
theorem dX0_mostBy_72 : decode cX0_mostBy 72 = .ok (.goto 4, 3) := dk_167 0 4 (dk_at dksX0_mostBy_3 1 rfl rfl)
theorem dX0_mostBy_75 : decode cX0_mostBy 75 = .ok (.iconst 0, 1) := dk_3 (dk_at dksX0_mostBy_3 4 rfl rfl)
theorem dX0_mostBy_76 : decode cX0_mostBy 76 = .ok (.iadd, 1) := dk_96 (dk_at dksX0_mostBy_3 5 rfl rfl)
theorem dX0_mostBy_77 : decode cX0_mostBy 77 = .ok (.istore 6, 2) := dk_54 6 (dk_at dksX0_mostBy_3 6 rfl rfl)
theorem dX0_mostBy_79 : decode cX0_mostBy 79 = .ok (.iinc 7 1, 3) := dk_132 7 1 (dk_at dksX0_mostBy_3 8 rfl rfl)
theorem dX0_mostBy_82 : decode cX0_mostBy 82 = .ok (.goto (-63), 3) := dk_167 255 193 (dk_at dksX0_mostBy_3 11 rfl rfl)
theorem dX0_mostBy_85 : decode cX0_mostBy 85 = .ok (.iload 4, 2) := dk_21 4 (dk_at dksX0_mostBy_3 14 rfl rfl)
theorem dX0_mostBy_87 : decode cX0_mostBy 87 = .ok (.iload 6, 2) := dk_21 6 (dk_at dksX0_mostBy_3 16 rfl rfl)
theorem dX0_mostBy_89 : decode cX0_mostBy 89 = .ok (.invokestatic 351, 3) := dk_184 1 95 (dk_at dksX0_mostBy_3 18 rfl rfl)
theorem dX0_mostBy_92 : decode cX0_mostBy 92 = .ok (.istore 4, 2) := dk_54 4 (dk_at dksX0_mostBy_3 21 rfl rfl)
theorem dX0_mostBy_94 : decode cX0_mostBy 94 = .ok (.iinc 5 1, 3) := dk_132 5 1 (dk_at dksX0_mostBy_4 0 rfl rfl)
theorem dX0_mostBy_97 : decode cX0_mostBy 97 = .ok (.goto (-91), 3) := dk_167 255 165 (dk_at dksX0_mostBy_4 3 rfl rfl)
theorem dX0_mostBy_100 : decode cX0_mostBy 100 = .ok (.iload 4, 2) := dk_21 4 (dk_at dksX0_mostBy_4 6 rfl rfl)
theorem dX0_mostBy_102 : decode cX0_mostBy 102 = .ok (.ireturn, 1) := dk_172 (dk_at dksX0_mostBy_4 8 rfl rfl)
abbrev cX0_undo : ByteArray := prog_1_method_55_code
def yX0_undo : MethodName := ⟨RX0, "undo", "()Z"⟩
def dkwX0_undo_2 : List UInt8 := [87, 4, 172]
abbrev dktX0_undo_2 : List UInt8 := dkwX0_undo_2 ++ []
def dkwX0_undo_1 : List UInt8 := [180, 0, 155, 4, 100, 181, 0, 155, 42, 180, 0, 74, 42, 180, 0, 111, 42, 180, 0, 155, 50, 182, 1, 38]
abbrev dktX0_undo_1 : List UInt8 := dkwX0_undo_1 ++ dktX0_undo_2
def dkwX0_undo_0 : List UInt8 := [42, 180, 0, 155, 154, 0, 17, 42, 7, 182, 0, 125, 155, 0, 7, 4, 167, 0, 4, 3, 172, 42, 89]
abbrev dktX0_undo_0 : List UInt8 := dkwX0_undo_0 ++ dktX0_undo_1
theorem dksX0_undo_0 : cX0_undo.data.toList.drop 0 = dktX0_undo_0 := by decide +kernel
theorem dksX0_undo_1 : cX0_undo.data.toList.drop 23 = dktX0_undo_1 := dk_seg dksX0_undo_0 23 rfl rfl
theorem dksX0_undo_2 : cX0_undo.data.toList.drop 47 = dktX0_undo_2 := dk_seg dksX0_undo_1 24 rfl rfl
theorem dX0_undo_0 : decode cX0_undo 0 = .ok (.aload_n 0, 1) := dk_42 (dk_at dksX0_undo_0 0 rfl rfl)
theorem dX0_undo_1 : decode cX0_undo 1 = .ok (.getfield 155, 3) := dk_180 0 155 (dk_at dksX0_undo_0 1 rfl rfl)
theorem dX0_undo_4 : decode cX0_undo 4 = .ok (.ifCond .ne 17, 3) := dk_154 0 17 (dk_at dksX0_undo_0 4 rfl rfl)
theorem dX0_undo_7 : decode cX0_undo 7 = .ok (.aload_n 0, 1) := dk_42 (dk_at dksX0_undo_0 7 rfl rfl)
theorem dX0_undo_8 : decode cX0_undo 8 = .ok (.iconst 4, 1) := dk_7 (dk_at dksX0_undo_0 8 rfl rfl)
theorem dX0_undo_9 : decode cX0_undo 9 = .ok (.invokevirtual 125, 3) := dk_182 0 125 (dk_at dksX0_undo_0 9 rfl rfl)
theorem dX0_undo_12 : decode cX0_undo 12 = .ok (.ifCond .lt 7, 3) := dk_155 0 7 (dk_at dksX0_undo_0 12 rfl rfl)
theorem dX0_undo_15 : decode cX0_undo 15 = .ok (.iconst 1, 1) := dk_4 (dk_at dksX0_undo_0 15 rfl rfl)
theorem dX0_undo_16 : decode cX0_undo 16 = .ok (.goto 4, 3) := dk_167 0 4 (dk_at dksX0_undo_0 16 rfl rfl)
theorem dX0_undo_19 : decode cX0_undo 19 = .ok (.iconst 0, 1) := dk_3 (dk_at dksX0_undo_0 19 rfl rfl)
theorem dX0_undo_20 : decode cX0_undo 20 = .ok (.ireturn, 1) := dk_172 (dk_at dksX0_undo_0 20 rfl rfl)
theorem dX0_undo_21 : decode cX0_undo 21 = .ok (.aload_n 0, 1) := dk_42 (dk_at dksX0_undo_0 21 rfl rfl)
theorem dX0_undo_22 : decode cX0_undo 22 = .ok (.dup, 1) := dk_89 (dk_at dksX0_undo_0 22 rfl rfl)
theorem dX0_undo_23 : decode cX0_undo 23 = .ok (.getfield 155, 3) := dk_180 0 155 (dk_at dksX0_undo_1 0 rfl rfl)
theorem dX0_undo_26 : decode cX0_undo 26 = .ok (.iconst 1, 1) := dk_4 (dk_at dksX0_undo_1 3 rfl rfl)
theorem dX0_undo_27 : decode cX0_undo 27 = .ok (.isub, 1) := dk_100 (dk_at dksX0_undo_1 4 rfl rfl)
theorem dX0_undo_28 : decode cX0_undo 28 = .ok (.putfield 155, 3) := dk_181 0 155 (dk_at dksX0_undo_1 5 rfl rfl)
theorem dX0_undo_31 : decode cX0_undo 31 = .ok (.aload_n 0, 1) := dk_42 (dk_at dksX0_undo_1 8 rfl rfl)
theorem dX0_undo_32 : decode cX0_undo 32 = .ok (.getfield 74, 3) := dk_180 0 74 (dk_at dksX0_undo_1 9 rfl rfl)
theorem dX0_undo_35 : decode cX0_undo 35 = .ok (.aload_n 0, 1) := dk_42 (dk_at dksX0_undo_1 12 rfl rfl)
theorem dX0_undo_36 : decode cX0_undo 36 = .ok (.getfield 111, 3) := dk_180 0 111 (dk_at dksX0_undo_1 13 rfl rfl)
theorem dX0_undo_39 : decode cX0_undo 39 = .ok (.aload_n 0, 1) := dk_42 (dk_at dksX0_undo_1 16 rfl rfl)
theorem dX0_undo_40 : decode cX0_undo 40 = .ok (.getfield 155, 3) := dk_180 0 155 (dk_at dksX0_undo_1 17 rfl rfl)
theorem dX0_undo_43 : decode cX0_undo 43 = .ok (.aaload, 1) := dk_50 (dk_at dksX0_undo_1 20 rfl rfl)
theorem dX0_undo_44 : decode cX0_undo 44 = .ok (.invokevirtual 294, 3) := dk_182 1 38 (dk_at dksX0_undo_1 21 rfl rfl)
theorem dX0_undo_47 : decode cX0_undo 47 = .ok (.pop, 1) := dk_87 (dk_at dksX0_undo_2 0 rfl rfl)
theorem dX0_undo_48 : decode cX0_undo 48 = .ok (.iconst 1, 1) := dk_4 (dk_at dksX0_undo_2 1 rfl rfl)
theorem dX0_undo_49 : decode cX0_undo 49 = .ok (.ireturn, 1) := dk_172 (dk_at dksX0_undo_2 2 rfl rfl)
abbrev cX0_go : ByteArray := prog_1_method_56_code
def yX0_go : MethodName := ⟨RX0, "go", "(I)I"⟩
def dkwX0_go_4 : List UInt8 := [180, 0, 74, 27, 181, 0, 214, 28, 172]
abbrev dktX0_go_4 : List UInt8 := dkwX0_go_4 ++ []
def dkwX0_go_3 : List UInt8 := [42, 42, 180, 0, 74, 180, 0, 214, 27, 182, 1, 30, 61, 42, 180, 0, 74, 28, 182, 1, 42, 87, 42]
abbrev dktX0_go_3 : List UInt8 := dkwX0_go_3 ++ dktX0_go_4
def dkwX0_go_2 : List UInt8 := [180, 0, 214, 27, 182, 1, 30, 96, 17, 3, 231, 164, 0, 9, 42, 5, 182, 0, 125, 172, 42, 182, 1, 104]
abbrev dktX0_go_2 : List UInt8 := dkwX0_go_2 ++ dktX0_go_3
def dkwX0_go_1 : List UInt8 := [180, 0, 214, 27, 182, 1, 30, 2, 159, 0, 29, 42, 180, 0, 74, 180, 0, 211, 42, 42, 180, 0, 74]
abbrev dktX0_go_1 : List UInt8 := dkwX0_go_1 ++ dktX0_go_2
def dkwX0_go_0 : List UInt8 := [42, 27, 182, 1, 27, 153, 0, 56, 27, 42, 180, 0, 74, 180, 0, 214, 159, 0, 45, 42, 42, 180, 0, 74]
abbrev dktX0_go_0 : List UInt8 := dkwX0_go_0 ++ dktX0_go_1
theorem dksX0_go_0 : cX0_go.data.toList.drop 0 = dktX0_go_0 := by decide +kernel
theorem dksX0_go_1 : cX0_go.data.toList.drop 24 = dktX0_go_1 := dk_seg dksX0_go_0 24 rfl rfl
theorem dksX0_go_2 : cX0_go.data.toList.drop 47 = dktX0_go_2 := dk_seg dksX0_go_1 23 rfl rfl
theorem dksX0_go_3 : cX0_go.data.toList.drop 71 = dktX0_go_3 := dk_seg dksX0_go_2 24 rfl rfl
theorem dksX0_go_4 : cX0_go.data.toList.drop 94 = dktX0_go_4 := dk_seg dksX0_go_3 23 rfl rfl
theorem dX0_go_0 : decode cX0_go 0 = .ok (.aload_n 0, 1) := dk_42 (dk_at dksX0_go_0 0 rfl rfl)
theorem dX0_go_1 : decode cX0_go 1 = .ok (.iload_n 1, 1) := dk_27 (dk_at dksX0_go_0 1 rfl rfl)
theorem dX0_go_2 : decode cX0_go 2 = .ok (.invokevirtual 283, 3) := dk_182 1 27 (dk_at dksX0_go_0 2 rfl rfl)
theorem dX0_go_5 : decode cX0_go 5 = .ok (.ifCond .eq 56, 3) := dk_153 0 56 (dk_at dksX0_go_0 5 rfl rfl)
theorem dX0_go_8 : decode cX0_go 8 = .ok (.iload_n 1, 1) := dk_27 (dk_at dksX0_go_0 8 rfl rfl)
theorem dX0_go_9 : decode cX0_go 9 = .ok (.aload_n 0, 1) := dk_42 (dk_at dksX0_go_0 9 rfl rfl)
theorem dX0_go_10 : decode cX0_go 10 = .ok (.getfield 74, 3) := dk_180 0 74 (dk_at dksX0_go_0 10 rfl rfl)
theorem dX0_go_13 : decode cX0_go 13 = .ok (.getfield 214, 3) := dk_180 0 214 (dk_at dksX0_go_0 13 rfl rfl)
theorem dX0_go_16 : decode cX0_go 16 = .ok (.if_icmp .eq 45, 3) := dk_159 0 45 (dk_at dksX0_go_0 16 rfl rfl)
theorem dX0_go_19 : decode cX0_go 19 = .ok (.aload_n 0, 1) := dk_42 (dk_at dksX0_go_0 19 rfl rfl)
theorem dX0_go_20 : decode cX0_go 20 = .ok (.aload_n 0, 1) := dk_42 (dk_at dksX0_go_0 20 rfl rfl)
theorem dX0_go_21 : decode cX0_go 21 = .ok (.getfield 74, 3) := dk_180 0 74 (dk_at dksX0_go_0 21 rfl rfl)
theorem dX0_go_24 : decode cX0_go 24 = .ok (.getfield 214, 3) := dk_180 0 214 (dk_at dksX0_go_1 0 rfl rfl)
theorem dX0_go_27 : decode cX0_go 27 = .ok (.iload_n 1, 1) := dk_27 (dk_at dksX0_go_1 3 rfl rfl)
theorem dX0_go_28 : decode cX0_go 28 = .ok (.invokevirtual 286, 3) := dk_182 1 30 (dk_at dksX0_go_1 4 rfl rfl)
theorem dX0_go_31 : decode cX0_go 31 = .ok (.iconst (-1), 1) := dk_2 (dk_at dksX0_go_1 7 rfl rfl)
theorem dX0_go_32 : decode cX0_go 32 = .ok (.if_icmp .eq 29, 3) := dk_159 0 29 (dk_at dksX0_go_1 8 rfl rfl)
theorem dX0_go_35 : decode cX0_go 35 = .ok (.aload_n 0, 1) := dk_42 (dk_at dksX0_go_1 11 rfl rfl)
theorem dX0_go_36 : decode cX0_go 36 = .ok (.getfield 74, 3) := dk_180 0 74 (dk_at dksX0_go_1 12 rfl rfl)
theorem dX0_go_39 : decode cX0_go 39 = .ok (.getfield 211, 3) := dk_180 0 211 (dk_at dksX0_go_1 15 rfl rfl)
theorem dX0_go_42 : decode cX0_go 42 = .ok (.aload_n 0, 1) := dk_42 (dk_at dksX0_go_1 18 rfl rfl)
theorem dX0_go_43 : decode cX0_go 43 = .ok (.aload_n 0, 1) := dk_42 (dk_at dksX0_go_1 19 rfl rfl)
theorem dX0_go_44 : decode cX0_go 44 = .ok (.getfield 74, 3) := dk_180 0 74 (dk_at dksX0_go_1 20 rfl rfl)
theorem dX0_go_47 : decode cX0_go 47 = .ok (.getfield 214, 3) := dk_180 0 214 (dk_at dksX0_go_2 0 rfl rfl)
theorem dX0_go_50 : decode cX0_go 50 = .ok (.iload_n 1, 1) := dk_27 (dk_at dksX0_go_2 3 rfl rfl)
theorem dX0_go_51 : decode cX0_go 51 = .ok (.invokevirtual 286, 3) := dk_182 1 30 (dk_at dksX0_go_2 4 rfl rfl)
theorem dX0_go_54 : decode cX0_go 54 = .ok (.iadd, 1) := dk_96 (dk_at dksX0_go_2 7 rfl rfl)
theorem dX0_go_55 : decode cX0_go 55 = .ok (.sipush 999, 3) := dk_17 3 231 (dk_at dksX0_go_2 8 rfl rfl)
theorem dX0_go_58 : decode cX0_go 58 = .ok (.if_icmp .le 9, 3) := dk_164 0 9 (dk_at dksX0_go_2 11 rfl rfl)
theorem dX0_go_61 : decode cX0_go 61 = .ok (.aload_n 0, 1) := dk_42 (dk_at dksX0_go_2 14 rfl rfl)
theorem dX0_go_62 : decode cX0_go 62 = .ok (.iconst 2, 1) := dk_5 (dk_at dksX0_go_2 15 rfl rfl)
theorem dX0_go_63 : decode cX0_go 63 = .ok (.invokevirtual 125, 3) := dk_182 0 125 (dk_at dksX0_go_2 16 rfl rfl)
theorem dX0_go_66 : decode cX0_go 66 = .ok (.ireturn, 1) := dk_172 (dk_at dksX0_go_2 19 rfl rfl)
theorem dX0_go_67 : decode cX0_go 67 = .ok (.aload_n 0, 1) := dk_42 (dk_at dksX0_go_2 20 rfl rfl)
theorem dX0_go_68 : decode cX0_go 68 = .ok (.invokevirtual 360, 3) := dk_182 1 104 (dk_at dksX0_go_2 21 rfl rfl)
theorem dX0_go_71 : decode cX0_go 71 = .ok (.aload_n 0, 1) := dk_42 (dk_at dksX0_go_3 0 rfl rfl)
theorem dX0_go_72 : decode cX0_go 72 = .ok (.aload_n 0, 1) := dk_42 (dk_at dksX0_go_3 1 rfl rfl)
theorem dX0_go_73 : decode cX0_go 73 = .ok (.getfield 74, 3) := dk_180 0 74 (dk_at dksX0_go_3 2 rfl rfl)
theorem dX0_go_76 : decode cX0_go 76 = .ok (.getfield 214, 3) := dk_180 0 214 (dk_at dksX0_go_3 5 rfl rfl)
theorem dX0_go_79 : decode cX0_go 79 = .ok (.iload_n 1, 1) := dk_27 (dk_at dksX0_go_3 8 rfl rfl)
theorem dX0_go_80 : decode cX0_go 80 = .ok (.invokevirtual 286, 3) := dk_182 1 30 (dk_at dksX0_go_3 9 rfl rfl)
theorem dX0_go_83 : decode cX0_go 83 = .ok (.istore_n 2, 1) := dk_61 (dk_at dksX0_go_3 12 rfl rfl)
theorem dX0_go_84 : decode cX0_go 84 = .ok (.aload_n 0, 1) := dk_42 (dk_at dksX0_go_3 13 rfl rfl)
theorem dX0_go_85 : decode cX0_go 85 = .ok (.getfield 74, 3) := dk_180 0 74 (dk_at dksX0_go_3 14 rfl rfl)
theorem dX0_go_88 : decode cX0_go 88 = .ok (.iload_n 2, 1) := dk_28 (dk_at dksX0_go_3 17 rfl rfl)
theorem dX0_go_89 : decode cX0_go 89 = .ok (.invokevirtual 298, 3) := dk_182 1 42 (dk_at dksX0_go_3 18 rfl rfl)
theorem dX0_go_92 : decode cX0_go 92 = .ok (.pop, 1) := dk_87 (dk_at dksX0_go_3 21 rfl rfl)
theorem dX0_go_93 : decode cX0_go 93 = .ok (.aload_n 0, 1) := dk_42 (dk_at dksX0_go_3 22 rfl rfl)
theorem dX0_go_94 : decode cX0_go 94 = .ok (.getfield 74, 3) := dk_180 0 74 (dk_at dksX0_go_4 0 rfl rfl)
theorem dX0_go_97 : decode cX0_go 97 = .ok (.iload_n 1, 1) := dk_27 (dk_at dksX0_go_4 3 rfl rfl)
theorem dX0_go_98 : decode cX0_go 98 = .ok (.putfield 214, 3) := dk_181 0 214 (dk_at dksX0_go_4 4 rfl rfl)
theorem dX0_go_101 : decode cX0_go 101 = .ok (.iload_n 2, 1) := dk_28 (dk_at dksX0_go_4 7 rfl rfl)
theorem dX0_go_102 : decode cX0_go 102 = .ok (.ireturn, 1) := dk_172 (dk_at dksX0_go_4 8 rfl rfl)
abbrev cX0_remembers : ByteArray := prog_1_method_54_code
def yX0_remembers : MethodName := ⟨RX0, "remembers", "()V"⟩
def dkwX0_remembers_3 : List UInt8 := [180, 0, 74, 182, 1, 38, 87, 42, 89, 180, 0, 155, 4, 96, 181, 0, 155, 177]
abbrev dktX0_remembers_3 : List UInt8 := dkwX0_remembers_3 ++ []
def dkwX0_remembers_2 : List UInt8 := [16, 19, 43, 83, 42, 89, 180, 0, 155, 4, 100, 181, 0, 155, 42, 180, 0, 111, 42, 180, 0, 155, 50, 42]
abbrev dktX0_remembers_2 : List UInt8 := dkwX0_remembers_2 ++ dktX0_remembers_3
def dkwX0_remembers_1 : List UInt8 := [42, 180, 0, 111, 28, 4, 100, 42, 180, 0, 111, 28, 50, 83, 132, 2, 1, 167, 255, 233, 42, 180, 0, 111]
abbrev dktX0_remembers_1 : List UInt8 := dkwX0_remembers_1 ++ dktX0_remembers_2
def dkwX0_remembers_0 : List UInt8 := [42, 180, 0, 155, 16, 20, 160, 0, 56, 42, 180, 0, 111, 3, 50, 76, 4, 61, 28, 16, 20, 162, 0, 23]
abbrev dktX0_remembers_0 : List UInt8 := dkwX0_remembers_0 ++ dktX0_remembers_1
theorem dksX0_remembers_0 : cX0_remembers.data.toList.drop 0 = dktX0_remembers_0 := by decide +kernel
theorem dksX0_remembers_1 : cX0_remembers.data.toList.drop 24 = dktX0_remembers_1 := dk_seg dksX0_remembers_0 24 rfl rfl
theorem dksX0_remembers_2 : cX0_remembers.data.toList.drop 48 = dktX0_remembers_2 := dk_seg dksX0_remembers_1 24 rfl rfl
theorem dksX0_remembers_3 : cX0_remembers.data.toList.drop 72 = dktX0_remembers_3 := dk_seg dksX0_remembers_2 24 rfl rfl
theorem dX0_remembers_0 : decode cX0_remembers 0 = .ok (.aload_n 0, 1) := dk_42 (dk_at dksX0_remembers_0 0 rfl rfl)
theorem dX0_remembers_1 : decode cX0_remembers 1 = .ok (.getfield 155, 3) := dk_180 0 155 (dk_at dksX0_remembers_0 1 rfl rfl)
theorem dX0_remembers_4 : decode cX0_remembers 4 = .ok (.bipush 20, 2) := dk_16 20 (dk_at dksX0_remembers_0 4 rfl rfl)
theorem dX0_remembers_6 : decode cX0_remembers 6 = .ok (.if_icmp .ne 56, 3) := dk_160 0 56 (dk_at dksX0_remembers_0 6 rfl rfl)
theorem dX0_remembers_9 : decode cX0_remembers 9 = .ok (.aload_n 0, 1) := dk_42 (dk_at dksX0_remembers_0 9 rfl rfl)
theorem dX0_remembers_10 : decode cX0_remembers 10 = .ok (.getfield 111, 3) := dk_180 0 111 (dk_at dksX0_remembers_0 10 rfl rfl)
theorem dX0_remembers_13 : decode cX0_remembers 13 = .ok (.iconst 0, 1) := dk_3 (dk_at dksX0_remembers_0 13 rfl rfl)
theorem dX0_remembers_14 : decode cX0_remembers 14 = .ok (.aaload, 1) := dk_50 (dk_at dksX0_remembers_0 14 rfl rfl)
theorem dX0_remembers_15 : decode cX0_remembers 15 = .ok (.astore_n 1, 1) := dk_76 (dk_at dksX0_remembers_0 15 rfl rfl)
theorem dX0_remembers_16 : decode cX0_remembers 16 = .ok (.iconst 1, 1) := dk_4 (dk_at dksX0_remembers_0 16 rfl rfl)
theorem dX0_remembers_17 : decode cX0_remembers 17 = .ok (.istore_n 2, 1) := dk_61 (dk_at dksX0_remembers_0 17 rfl rfl)
theorem dX0_remembers_18 : decode cX0_remembers 18 = .ok (.iload_n 2, 1) := dk_28 (dk_at dksX0_remembers_0 18 rfl rfl)
theorem dX0_remembers_19 : decode cX0_remembers 19 = .ok (.bipush 20, 2) := dk_16 20 (dk_at dksX0_remembers_0 19 rfl rfl)
theorem dX0_remembers_21 : decode cX0_remembers 21 = .ok (.if_icmp .ge 23, 3) := dk_162 0 23 (dk_at dksX0_remembers_0 21 rfl rfl)
theorem dX0_remembers_24 : decode cX0_remembers 24 = .ok (.aload_n 0, 1) := dk_42 (dk_at dksX0_remembers_1 0 rfl rfl)
theorem dX0_remembers_25 : decode cX0_remembers 25 = .ok (.getfield 111, 3) := dk_180 0 111 (dk_at dksX0_remembers_1 1 rfl rfl)
theorem dX0_remembers_28 : decode cX0_remembers 28 = .ok (.iload_n 2, 1) := dk_28 (dk_at dksX0_remembers_1 4 rfl rfl)
theorem dX0_remembers_29 : decode cX0_remembers 29 = .ok (.iconst 1, 1) := dk_4 (dk_at dksX0_remembers_1 5 rfl rfl)
theorem dX0_remembers_30 : decode cX0_remembers 30 = .ok (.isub, 1) := dk_100 (dk_at dksX0_remembers_1 6 rfl rfl)
theorem dX0_remembers_31 : decode cX0_remembers 31 = .ok (.aload_n 0, 1) := dk_42 (dk_at dksX0_remembers_1 7 rfl rfl)
theorem dX0_remembers_32 : decode cX0_remembers 32 = .ok (.getfield 111, 3) := dk_180 0 111 (dk_at dksX0_remembers_1 8 rfl rfl)
theorem dX0_remembers_35 : decode cX0_remembers 35 = .ok (.iload_n 2, 1) := dk_28 (dk_at dksX0_remembers_1 11 rfl rfl)
theorem dX0_remembers_36 : decode cX0_remembers 36 = .ok (.aaload, 1) := dk_50 (dk_at dksX0_remembers_1 12 rfl rfl)
theorem dX0_remembers_37 : decode cX0_remembers 37 = .ok (.aastore, 1) := dk_83 (dk_at dksX0_remembers_1 13 rfl rfl)
theorem dX0_remembers_38 : decode cX0_remembers 38 = .ok (.iinc 2 1, 3) := dk_132 2 1 (dk_at dksX0_remembers_1 14 rfl rfl)
theorem dX0_remembers_41 : decode cX0_remembers 41 = .ok (.goto (-23), 3) := dk_167 255 233 (dk_at dksX0_remembers_1 17 rfl rfl)
theorem dX0_remembers_44 : decode cX0_remembers 44 = .ok (.aload_n 0, 1) := dk_42 (dk_at dksX0_remembers_1 20 rfl rfl)
theorem dX0_remembers_45 : decode cX0_remembers 45 = .ok (.getfield 111, 3) := dk_180 0 111 (dk_at dksX0_remembers_1 21 rfl rfl)
theorem dX0_remembers_48 : decode cX0_remembers 48 = .ok (.bipush 19, 2) := dk_16 19 (dk_at dksX0_remembers_2 0 rfl rfl)
theorem dX0_remembers_50 : decode cX0_remembers 50 = .ok (.aload_n 1, 1) := dk_43 (dk_at dksX0_remembers_2 2 rfl rfl)
theorem dX0_remembers_51 : decode cX0_remembers 51 = .ok (.aastore, 1) := dk_83 (dk_at dksX0_remembers_2 3 rfl rfl)
theorem dX0_remembers_52 : decode cX0_remembers 52 = .ok (.aload_n 0, 1) := dk_42 (dk_at dksX0_remembers_2 4 rfl rfl)
theorem dX0_remembers_53 : decode cX0_remembers 53 = .ok (.dup, 1) := dk_89 (dk_at dksX0_remembers_2 5 rfl rfl)
theorem dX0_remembers_54 : decode cX0_remembers 54 = .ok (.getfield 155, 3) := dk_180 0 155 (dk_at dksX0_remembers_2 6 rfl rfl)
theorem dX0_remembers_57 : decode cX0_remembers 57 = .ok (.iconst 1, 1) := dk_4 (dk_at dksX0_remembers_2 9 rfl rfl)
theorem dX0_remembers_58 : decode cX0_remembers 58 = .ok (.isub, 1) := dk_100 (dk_at dksX0_remembers_2 10 rfl rfl)
theorem dX0_remembers_59 : decode cX0_remembers 59 = .ok (.putfield 155, 3) := dk_181 0 155 (dk_at dksX0_remembers_2 11 rfl rfl)
theorem dX0_remembers_62 : decode cX0_remembers 62 = .ok (.aload_n 0, 1) := dk_42 (dk_at dksX0_remembers_2 14 rfl rfl)
theorem dX0_remembers_63 : decode cX0_remembers 63 = .ok (.getfield 111, 3) := dk_180 0 111 (dk_at dksX0_remembers_2 15 rfl rfl)
theorem dX0_remembers_66 : decode cX0_remembers 66 = .ok (.aload_n 0, 1) := dk_42 (dk_at dksX0_remembers_2 18 rfl rfl)
theorem dX0_remembers_67 : decode cX0_remembers 67 = .ok (.getfield 155, 3) := dk_180 0 155 (dk_at dksX0_remembers_2 19 rfl rfl)
theorem dX0_remembers_70 : decode cX0_remembers 70 = .ok (.aaload, 1) := dk_50 (dk_at dksX0_remembers_2 22 rfl rfl)
theorem dX0_remembers_71 : decode cX0_remembers 71 = .ok (.aload_n 0, 1) := dk_42 (dk_at dksX0_remembers_2 23 rfl rfl)
theorem dX0_remembers_72 : decode cX0_remembers 72 = .ok (.getfield 74, 3) := dk_180 0 74 (dk_at dksX0_remembers_3 0 rfl rfl)
theorem dX0_remembers_75 : decode cX0_remembers 75 = .ok (.invokevirtual 294, 3) := dk_182 1 38 (dk_at dksX0_remembers_3 3 rfl rfl)
theorem dX0_remembers_78 : decode cX0_remembers 78 = .ok (.pop, 1) := dk_87 (dk_at dksX0_remembers_3 6 rfl rfl)
theorem dX0_remembers_79 : decode cX0_remembers 79 = .ok (.aload_n 0, 1) := dk_42 (dk_at dksX0_remembers_3 7 rfl rfl)
theorem dX0_remembers_80 : decode cX0_remembers 80 = .ok (.dup, 1) := dk_89 (dk_at dksX0_remembers_3 8 rfl rfl)
theorem dX0_remembers_81 : decode cX0_remembers 81 = .ok (.getfield 155, 3) := dk_180 0 155 (dk_at dksX0_remembers_3 9 rfl rfl)
theorem dX0_remembers_84 : decode cX0_remembers 84 = .ok (.iconst 1, 1) := dk_4 (dk_at dksX0_remembers_3 12 rfl rfl)
theorem dX0_remembers_85 : decode cX0_remembers 85 = .ok (.iadd, 1) := dk_96 (dk_at dksX0_remembers_3 13 rfl rfl)
theorem dX0_remembers_86 : decode cX0_remembers 86 = .ok (.putfield 155, 3) := dk_181 0 155 (dk_at dksX0_remembers_3 14 rfl rfl)
theorem dX0_remembers_89 : decode cX0_remembers 89 = .ok (.return_, 1) := dk_177 (dk_at dksX0_remembers_3 17 rfl rfl)
abbrev cX0_snuff : ByteArray := prog_1_method_58_code
def yX0_snuff : MethodName := ⟨RX0, "snuff", "(I)I"⟩
def dkwX0_snuff_2 : List UInt8 := [172]
abbrev dktX0_snuff_2 : List UInt8 := dkwX0_snuff_2 ++ []
def dkwX0_snuff_1 : List UInt8 := [182, 1, 4, 153, 0, 9, 42, 5, 182, 0, 125, 172, 42, 182, 1, 104, 42, 180, 0, 74, 27, 182, 1, 54]
abbrev dktX0_snuff_1 : List UInt8 := dkwX0_snuff_1 ++ dktX0_snuff_2
def dkwX0_snuff_0 : List UInt8 := [42, 27, 182, 1, 107, 153, 0, 25, 42, 180, 0, 74, 27, 182, 1, 45, 153, 0, 14, 42, 180, 0, 74, 27]
abbrev dktX0_snuff_0 : List UInt8 := dkwX0_snuff_0 ++ dktX0_snuff_1
theorem dksX0_snuff_0 : cX0_snuff.data.toList.drop 0 = dktX0_snuff_0 := by decide +kernel
theorem dksX0_snuff_1 : cX0_snuff.data.toList.drop 24 = dktX0_snuff_1 := dk_seg dksX0_snuff_0 24 rfl rfl
theorem dksX0_snuff_2 : cX0_snuff.data.toList.drop 48 = dktX0_snuff_2 := dk_seg dksX0_snuff_1 24 rfl rfl
theorem dX0_snuff_0 : decode cX0_snuff 0 = .ok (.aload_n 0, 1) := dk_42 (dk_at dksX0_snuff_0 0 rfl rfl)
theorem dX0_snuff_1 : decode cX0_snuff 1 = .ok (.iload_n 1, 1) := dk_27 (dk_at dksX0_snuff_0 1 rfl rfl)
theorem dX0_snuff_2 : decode cX0_snuff 2 = .ok (.invokevirtual 363, 3) := dk_182 1 107 (dk_at dksX0_snuff_0 2 rfl rfl)
theorem dX0_snuff_5 : decode cX0_snuff 5 = .ok (.ifCond .eq 25, 3) := dk_153 0 25 (dk_at dksX0_snuff_0 5 rfl rfl)
theorem dX0_snuff_8 : decode cX0_snuff 8 = .ok (.aload_n 0, 1) := dk_42 (dk_at dksX0_snuff_0 8 rfl rfl)
theorem dX0_snuff_9 : decode cX0_snuff 9 = .ok (.getfield 74, 3) := dk_180 0 74 (dk_at dksX0_snuff_0 9 rfl rfl)
theorem dX0_snuff_12 : decode cX0_snuff 12 = .ok (.iload_n 1, 1) := dk_27 (dk_at dksX0_snuff_0 12 rfl rfl)
theorem dX0_snuff_13 : decode cX0_snuff 13 = .ok (.invokevirtual 301, 3) := dk_182 1 45 (dk_at dksX0_snuff_0 13 rfl rfl)
theorem dX0_snuff_16 : decode cX0_snuff 16 = .ok (.ifCond .eq 14, 3) := dk_153 0 14 (dk_at dksX0_snuff_0 16 rfl rfl)
theorem dX0_snuff_19 : decode cX0_snuff 19 = .ok (.aload_n 0, 1) := dk_42 (dk_at dksX0_snuff_0 19 rfl rfl)
theorem dX0_snuff_20 : decode cX0_snuff 20 = .ok (.getfield 74, 3) := dk_180 0 74 (dk_at dksX0_snuff_0 20 rfl rfl)
theorem dX0_snuff_23 : decode cX0_snuff 23 = .ok (.iload_n 1, 1) := dk_27 (dk_at dksX0_snuff_0 23 rfl rfl)
theorem dX0_snuff_24 : decode cX0_snuff 24 = .ok (.invokevirtual 260, 3) := dk_182 1 4 (dk_at dksX0_snuff_1 0 rfl rfl)
theorem dX0_snuff_27 : decode cX0_snuff 27 = .ok (.ifCond .eq 9, 3) := dk_153 0 9 (dk_at dksX0_snuff_1 3 rfl rfl)
theorem dX0_snuff_30 : decode cX0_snuff 30 = .ok (.aload_n 0, 1) := dk_42 (dk_at dksX0_snuff_1 6 rfl rfl)
theorem dX0_snuff_31 : decode cX0_snuff 31 = .ok (.iconst 2, 1) := dk_5 (dk_at dksX0_snuff_1 7 rfl rfl)
theorem dX0_snuff_32 : decode cX0_snuff 32 = .ok (.invokevirtual 125, 3) := dk_182 0 125 (dk_at dksX0_snuff_1 8 rfl rfl)
theorem dX0_snuff_35 : decode cX0_snuff 35 = .ok (.ireturn, 1) := dk_172 (dk_at dksX0_snuff_1 11 rfl rfl)
theorem dX0_snuff_36 : decode cX0_snuff 36 = .ok (.aload_n 0, 1) := dk_42 (dk_at dksX0_snuff_1 12 rfl rfl)
theorem dX0_snuff_37 : decode cX0_snuff 37 = .ok (.invokevirtual 360, 3) := dk_182 1 104 (dk_at dksX0_snuff_1 13 rfl rfl)
theorem dX0_snuff_40 : decode cX0_snuff 40 = .ok (.aload_n 0, 1) := dk_42 (dk_at dksX0_snuff_1 16 rfl rfl)
theorem dX0_snuff_41 : decode cX0_snuff 41 = .ok (.getfield 74, 3) := dk_180 0 74 (dk_at dksX0_snuff_1 17 rfl rfl)
theorem dX0_snuff_44 : decode cX0_snuff 44 = .ok (.iload_n 1, 1) := dk_27 (dk_at dksX0_snuff_1 20 rfl rfl)
theorem dX0_snuff_45 : decode cX0_snuff 45 = .ok (.invokevirtual 310, 3) := dk_182 1 54 (dk_at dksX0_snuff_1 21 rfl rfl)
theorem dX0_snuff_48 : decode cX0_snuff 48 = .ok (.ireturn, 1) := dk_172 (dk_at dksX0_snuff_2 0 rfl rfl)
abbrev cX0_isHere : ByteArray := prog_1_method_57_code
def yX0_isHere : MethodName := ⟨RX0, "isHere", "(I)Z"⟩
def dkwX0_isHere_1 : List UInt8 := [160, 0, 7, 4, 167, 0, 4, 3, 172]
abbrev dktX0_isHere_1 : List UInt8 := dkwX0_isHere_1 ++ []
def dkwX0_isHere_0 : List UInt8 := [42, 27, 182, 0, 240, 153, 0, 25, 42, 27, 182, 0, 244, 180, 0, 248, 42, 180, 0, 74, 180, 0, 214]
abbrev dktX0_isHere_0 : List UInt8 := dkwX0_isHere_0 ++ dktX0_isHere_1
theorem dksX0_isHere_0 : cX0_isHere.data.toList.drop 0 = dktX0_isHere_0 := by decide +kernel
theorem dksX0_isHere_1 : cX0_isHere.data.toList.drop 23 = dktX0_isHere_1 := dk_seg dksX0_isHere_0 23 rfl rfl
theorem dX0_isHere_0 : decode cX0_isHere 0 = .ok (.aload_n 0, 1) := dk_42 (dk_at dksX0_isHere_0 0 rfl rfl)
theorem dX0_isHere_1 : decode cX0_isHere 1 = .ok (.iload_n 1, 1) := dk_27 (dk_at dksX0_isHere_0 1 rfl rfl)
theorem dX0_isHere_2 : decode cX0_isHere 2 = .ok (.invokevirtual 240, 3) := dk_182 0 240 (dk_at dksX0_isHere_0 2 rfl rfl)
theorem dX0_isHere_5 : decode cX0_isHere 5 = .ok (.ifCond .eq 25, 3) := dk_153 0 25 (dk_at dksX0_isHere_0 5 rfl rfl)
theorem dX0_isHere_8 : decode cX0_isHere 8 = .ok (.aload_n 0, 1) := dk_42 (dk_at dksX0_isHere_0 8 rfl rfl)
theorem dX0_isHere_9 : decode cX0_isHere 9 = .ok (.iload_n 1, 1) := dk_27 (dk_at dksX0_isHere_0 9 rfl rfl)
theorem dX0_isHere_10 : decode cX0_isHere 10 = .ok (.invokevirtual 244, 3) := dk_182 0 244 (dk_at dksX0_isHere_0 10 rfl rfl)
theorem dX0_isHere_13 : decode cX0_isHere 13 = .ok (.getfield 248, 3) := dk_180 0 248 (dk_at dksX0_isHere_0 13 rfl rfl)
theorem dX0_isHere_16 : decode cX0_isHere 16 = .ok (.aload_n 0, 1) := dk_42 (dk_at dksX0_isHere_0 16 rfl rfl)
theorem dX0_isHere_17 : decode cX0_isHere 17 = .ok (.getfield 74, 3) := dk_180 0 74 (dk_at dksX0_isHere_0 17 rfl rfl)
theorem dX0_isHere_20 : decode cX0_isHere 20 = .ok (.getfield 214, 3) := dk_180 0 214 (dk_at dksX0_isHere_0 20 rfl rfl)
theorem dX0_isHere_23 : decode cX0_isHere 23 = .ok (.if_icmp .ne 7, 3) := dk_160 0 7 (dk_at dksX0_isHere_1 0 rfl rfl)
theorem dX0_isHere_26 : decode cX0_isHere 26 = .ok (.iconst 1, 1) := dk_4 (dk_at dksX0_isHere_1 3 rfl rfl)
theorem dX0_isHere_27 : decode cX0_isHere 27 = .ok (.goto 4, 3) := dk_167 0 4 (dk_at dksX0_isHere_1 4 rfl rfl)
theorem dX0_isHere_30 : decode cX0_isHere 30 = .ok (.iconst 0, 1) := dk_3 (dk_at dksX0_isHere_1 7 rfl rfl)
theorem dX0_isHere_31 : decode cX0_isHere 31 = .ok (.ireturn, 1) := dk_172 (dk_at dksX0_isHere_1 8 rfl rfl)
abbrev cX0_light : ByteArray := prog_1_method_59_code
def yX0_light : MethodName := ⟨RX0, "light", "(I)Z"⟩
def dkwX0_light_3 : List UInt8 := [180, 1, 1, 27, 3, 79, 4, 172]
abbrev dktX0_light_3 : List UInt8 := dkwX0_light_3 ++ []
def dkwX0_light_2 : List UInt8 := [167, 0, 4, 3, 172, 42, 182, 1, 104, 42, 180, 0, 74, 180, 0, 254, 27, 16, 10, 79, 42, 180, 0, 74]
abbrev dktX0_light_2 : List UInt8 := dkwX0_light_2 ++ dktX0_light_3
def dkwX0_light_1 : List UInt8 := [42, 180, 0, 74, 182, 0, 217, 182, 1, 77, 154, 0, 17, 42, 5, 182, 0, 125, 155, 0, 7, 4]
abbrev dktX0_light_1 : List UInt8 := dkwX0_light_1 ++ dktX0_light_2
def dkwX0_light_0 : List UInt8 := [42, 27, 182, 1, 107, 153, 0, 32, 42, 180, 0, 74, 27, 182, 1, 45, 154, 0, 21, 42, 180, 0, 74, 27]
abbrev dktX0_light_0 : List UInt8 := dkwX0_light_0 ++ dktX0_light_1
theorem dksX0_light_0 : cX0_light.data.toList.drop 0 = dktX0_light_0 := by decide +kernel
theorem dksX0_light_1 : cX0_light.data.toList.drop 24 = dktX0_light_1 := dk_seg dksX0_light_0 24 rfl rfl
theorem dksX0_light_2 : cX0_light.data.toList.drop 46 = dktX0_light_2 := dk_seg dksX0_light_1 22 rfl rfl
theorem dksX0_light_3 : cX0_light.data.toList.drop 70 = dktX0_light_3 := dk_seg dksX0_light_2 24 rfl rfl
theorem dX0_light_0 : decode cX0_light 0 = .ok (.aload_n 0, 1) := dk_42 (dk_at dksX0_light_0 0 rfl rfl)
theorem dX0_light_1 : decode cX0_light 1 = .ok (.iload_n 1, 1) := dk_27 (dk_at dksX0_light_0 1 rfl rfl)
theorem dX0_light_2 : decode cX0_light 2 = .ok (.invokevirtual 363, 3) := dk_182 1 107 (dk_at dksX0_light_0 2 rfl rfl)
theorem dX0_light_5 : decode cX0_light 5 = .ok (.ifCond .eq 32, 3) := dk_153 0 32 (dk_at dksX0_light_0 5 rfl rfl)
theorem dX0_light_8 : decode cX0_light 8 = .ok (.aload_n 0, 1) := dk_42 (dk_at dksX0_light_0 8 rfl rfl)
theorem dX0_light_9 : decode cX0_light 9 = .ok (.getfield 74, 3) := dk_180 0 74 (dk_at dksX0_light_0 9 rfl rfl)
theorem dX0_light_12 : decode cX0_light 12 = .ok (.iload_n 1, 1) := dk_27 (dk_at dksX0_light_0 12 rfl rfl)
theorem dX0_light_13 : decode cX0_light 13 = .ok (.invokevirtual 301, 3) := dk_182 1 45 (dk_at dksX0_light_0 13 rfl rfl)
theorem dX0_light_16 : decode cX0_light 16 = .ok (.ifCond .ne 21, 3) := dk_154 0 21 (dk_at dksX0_light_0 16 rfl rfl)
theorem dX0_light_19 : decode cX0_light 19 = .ok (.aload_n 0, 1) := dk_42 (dk_at dksX0_light_0 19 rfl rfl)
theorem dX0_light_20 : decode cX0_light 20 = .ok (.getfield 74, 3) := dk_180 0 74 (dk_at dksX0_light_0 20 rfl rfl)
theorem dX0_light_23 : decode cX0_light 23 = .ok (.iload_n 1, 1) := dk_27 (dk_at dksX0_light_0 23 rfl rfl)
theorem dX0_light_24 : decode cX0_light 24 = .ok (.aload_n 0, 1) := dk_42 (dk_at dksX0_light_1 0 rfl rfl)
theorem dX0_light_25 : decode cX0_light 25 = .ok (.getfield 74, 3) := dk_180 0 74 (dk_at dksX0_light_1 1 rfl rfl)
theorem dX0_light_28 : decode cX0_light 28 = .ok (.invokevirtual 217, 3) := dk_182 0 217 (dk_at dksX0_light_1 4 rfl rfl)
theorem dX0_light_31 : decode cX0_light 31 = .ok (.invokevirtual 333, 3) := dk_182 1 77 (dk_at dksX0_light_1 7 rfl rfl)
theorem dX0_light_34 : decode cX0_light 34 = .ok (.ifCond .ne 17, 3) := dk_154 0 17 (dk_at dksX0_light_1 10 rfl rfl)
theorem dX0_light_37 : decode cX0_light 37 = .ok (.aload_n 0, 1) := dk_42 (dk_at dksX0_light_1 13 rfl rfl)
theorem dX0_light_38 : decode cX0_light 38 = .ok (.iconst 2, 1) := dk_5 (dk_at dksX0_light_1 14 rfl rfl)
theorem dX0_light_39 : decode cX0_light 39 = .ok (.invokevirtual 125, 3) := dk_182 0 125 (dk_at dksX0_light_1 15 rfl rfl)
theorem dX0_light_42 : decode cX0_light 42 = .ok (.ifCond .lt 7, 3) := dk_155 0 7 (dk_at dksX0_light_1 18 rfl rfl)
theorem dX0_light_45 : decode cX0_light 45 = .ok (.iconst 1, 1) := dk_4 (dk_at dksX0_light_1 21 rfl rfl)
theorem dX0_light_46 : decode cX0_light 46 = .ok (.goto 4, 3) := dk_167 0 4 (dk_at dksX0_light_2 0 rfl rfl)
theorem dX0_light_49 : decode cX0_light 49 = .ok (.iconst 0, 1) := dk_3 (dk_at dksX0_light_2 3 rfl rfl)
theorem dX0_light_50 : decode cX0_light 50 = .ok (.ireturn, 1) := dk_172 (dk_at dksX0_light_2 4 rfl rfl)
theorem dX0_light_51 : decode cX0_light 51 = .ok (.aload_n 0, 1) := dk_42 (dk_at dksX0_light_2 5 rfl rfl)
theorem dX0_light_52 : decode cX0_light 52 = .ok (.invokevirtual 360, 3) := dk_182 1 104 (dk_at dksX0_light_2 6 rfl rfl)
theorem dX0_light_55 : decode cX0_light 55 = .ok (.aload_n 0, 1) := dk_42 (dk_at dksX0_light_2 9 rfl rfl)
theorem dX0_light_56 : decode cX0_light 56 = .ok (.getfield 74, 3) := dk_180 0 74 (dk_at dksX0_light_2 10 rfl rfl)
theorem dX0_light_59 : decode cX0_light 59 = .ok (.getfield 254, 3) := dk_180 0 254 (dk_at dksX0_light_2 13 rfl rfl)
theorem dX0_light_62 : decode cX0_light 62 = .ok (.iload_n 1, 1) := dk_27 (dk_at dksX0_light_2 16 rfl rfl)
theorem dX0_light_63 : decode cX0_light 63 = .ok (.bipush 10, 2) := dk_16 10 (dk_at dksX0_light_2 17 rfl rfl)
theorem dX0_light_65 : decode cX0_light 65 = .ok (.iastore, 1) := dk_79 (dk_at dksX0_light_2 19 rfl rfl)
theorem dX0_light_66 : decode cX0_light 66 = .ok (.aload_n 0, 1) := dk_42 (dk_at dksX0_light_2 20 rfl rfl)
theorem dX0_light_67 : decode cX0_light 67 = .ok (.getfield 74, 3) := dk_180 0 74 (dk_at dksX0_light_2 21 rfl rfl)
theorem dX0_light_70 : decode cX0_light 70 = .ok (.getfield 257, 3) := dk_180 1 1 (dk_at dksX0_light_3 0 rfl rfl)
theorem dX0_light_73 : decode cX0_light 73 = .ok (.iload_n 1, 1) := dk_27 (dk_at dksX0_light_3 3 rfl rfl)
theorem dX0_light_74 : decode cX0_light 74 = .ok (.iconst 0, 1) := dk_3 (dk_at dksX0_light_3 4 rfl rfl)
theorem dX0_light_75 : decode cX0_light 75 = .ok (.iastore, 1) := dk_79 (dk_at dksX0_light_3 5 rfl rfl)
theorem dX0_light_76 : decode cX0_light 76 = .ok (.iconst 1, 1) := dk_4 (dk_at dksX0_light_3 6 rfl rfl)
theorem dX0_light_77 : decode cX0_light 77 = .ok (.ireturn, 1) := dk_172 (dk_at dksX0_light_3 7 rfl rfl)
abbrev cX0_bind : ByteArray := prog_1_method_60_code
def yX0_bind : MethodName := ⟨RX0, "bind", "(II)Z"⟩
def dkwX0_bind_3 : List UInt8 := [130, 181, 0, 225, 4, 172]
abbrev dktX0_bind_3 : List UInt8 := dkwX0_bind_3 ++ []
def dkwX0_bind_2 : List UInt8 := [155, 0, 7, 4, 167, 0, 4, 3, 172, 42, 182, 1, 104, 42, 180, 0, 74, 89, 180, 0, 225, 4, 27, 120]
abbrev dktX0_bind_2 : List UInt8 := dkwX0_bind_2 ++ dktX0_bind_3
def dkwX0_bind_1 : List UInt8 := [27, 184, 1, 20, 28, 4, 160, 0, 7, 4, 167, 0, 4, 3, 160, 0, 17, 42, 5, 182, 0, 125]
abbrev dktX0_bind_1 : List UInt8 := dkwX0_bind_1 ++ dktX0_bind_2
def dkwX0_bind_0 : List UInt8 := [42, 27, 182, 1, 7, 153, 0, 36, 28, 3, 4, 184, 0, 231, 153, 0, 27, 42, 180, 0, 74, 180, 0, 225]
abbrev dktX0_bind_0 : List UInt8 := dkwX0_bind_0 ++ dktX0_bind_1
theorem dksX0_bind_0 : cX0_bind.data.toList.drop 0 = dktX0_bind_0 := by decide +kernel
theorem dksX0_bind_1 : cX0_bind.data.toList.drop 24 = dktX0_bind_1 := dk_seg dksX0_bind_0 24 rfl rfl
theorem dksX0_bind_2 : cX0_bind.data.toList.drop 46 = dktX0_bind_2 := dk_seg dksX0_bind_1 22 rfl rfl
theorem dksX0_bind_3 : cX0_bind.data.toList.drop 70 = dktX0_bind_3 := dk_seg dksX0_bind_2 24 rfl rfl
theorem dX0_bind_0 : decode cX0_bind 0 = .ok (.aload_n 0, 1) := dk_42 (dk_at dksX0_bind_0 0 rfl rfl)
theorem dX0_bind_1 : decode cX0_bind 1 = .ok (.iload_n 1, 1) := dk_27 (dk_at dksX0_bind_0 1 rfl rfl)
theorem dX0_bind_2 : decode cX0_bind 2 = .ok (.invokevirtual 263, 3) := dk_182 1 7 (dk_at dksX0_bind_0 2 rfl rfl)
theorem dX0_bind_5 : decode cX0_bind 5 = .ok (.ifCond .eq 36, 3) := dk_153 0 36 (dk_at dksX0_bind_0 5 rfl rfl)
theorem dX0_bind_8 : decode cX0_bind 8 = .ok (.iload_n 2, 1) := dk_28 (dk_at dksX0_bind_0 8 rfl rfl)
theorem dX0_bind_9 : decode cX0_bind 9 = .ok (.iconst 0, 1) := dk_3 (dk_at dksX0_bind_0 9 rfl rfl)
theorem dX0_bind_10 : decode cX0_bind 10 = .ok (.iconst 1, 1) := dk_4 (dk_at dksX0_bind_0 10 rfl rfl)
theorem dX0_bind_11 : decode cX0_bind 11 = .ok (.invokestatic 231, 3) := dk_184 0 231 (dk_at dksX0_bind_0 11 rfl rfl)
theorem dX0_bind_14 : decode cX0_bind 14 = .ok (.ifCond .eq 27, 3) := dk_153 0 27 (dk_at dksX0_bind_0 14 rfl rfl)
theorem dX0_bind_17 : decode cX0_bind 17 = .ok (.aload_n 0, 1) := dk_42 (dk_at dksX0_bind_0 17 rfl rfl)
theorem dX0_bind_18 : decode cX0_bind 18 = .ok (.getfield 74, 3) := dk_180 0 74 (dk_at dksX0_bind_0 18 rfl rfl)
theorem dX0_bind_21 : decode cX0_bind 21 = .ok (.getfield 225, 3) := dk_180 0 225 (dk_at dksX0_bind_0 21 rfl rfl)
theorem dX0_bind_24 : decode cX0_bind 24 = .ok (.iload_n 1, 1) := dk_27 (dk_at dksX0_bind_1 0 rfl rfl)
theorem dX0_bind_25 : decode cX0_bind 25 = .ok (.invokestatic 276, 3) := dk_184 1 20 (dk_at dksX0_bind_1 1 rfl rfl)
theorem dX0_bind_28 : decode cX0_bind 28 = .ok (.iload_n 2, 1) := dk_28 (dk_at dksX0_bind_1 4 rfl rfl)
theorem dX0_bind_29 : decode cX0_bind 29 = .ok (.iconst 1, 1) := dk_4 (dk_at dksX0_bind_1 5 rfl rfl)
theorem dX0_bind_30 : decode cX0_bind 30 = .ok (.if_icmp .ne 7, 3) := dk_160 0 7 (dk_at dksX0_bind_1 6 rfl rfl)
theorem dX0_bind_33 : decode cX0_bind 33 = .ok (.iconst 1, 1) := dk_4 (dk_at dksX0_bind_1 9 rfl rfl)
theorem dX0_bind_34 : decode cX0_bind 34 = .ok (.goto 4, 3) := dk_167 0 4 (dk_at dksX0_bind_1 10 rfl rfl)
theorem dX0_bind_37 : decode cX0_bind 37 = .ok (.iconst 0, 1) := dk_3 (dk_at dksX0_bind_1 13 rfl rfl)
theorem dX0_bind_38 : decode cX0_bind 38 = .ok (.if_icmp .ne 17, 3) := dk_160 0 17 (dk_at dksX0_bind_1 14 rfl rfl)
theorem dX0_bind_41 : decode cX0_bind 41 = .ok (.aload_n 0, 1) := dk_42 (dk_at dksX0_bind_1 17 rfl rfl)
theorem dX0_bind_42 : decode cX0_bind 42 = .ok (.iconst 2, 1) := dk_5 (dk_at dksX0_bind_1 18 rfl rfl)
theorem dX0_bind_43 : decode cX0_bind 43 = .ok (.invokevirtual 125, 3) := dk_182 0 125 (dk_at dksX0_bind_1 19 rfl rfl)
theorem dX0_bind_46 : decode cX0_bind 46 = .ok (.ifCond .lt 7, 3) := dk_155 0 7 (dk_at dksX0_bind_2 0 rfl rfl)
theorem dX0_bind_49 : decode cX0_bind 49 = .ok (.iconst 1, 1) := dk_4 (dk_at dksX0_bind_2 3 rfl rfl)
theorem dX0_bind_50 : decode cX0_bind 50 = .ok (.goto 4, 3) := dk_167 0 4 (dk_at dksX0_bind_2 4 rfl rfl)
theorem dX0_bind_53 : decode cX0_bind 53 = .ok (.iconst 0, 1) := dk_3 (dk_at dksX0_bind_2 7 rfl rfl)
theorem dX0_bind_54 : decode cX0_bind 54 = .ok (.ireturn, 1) := dk_172 (dk_at dksX0_bind_2 8 rfl rfl)
theorem dX0_bind_55 : decode cX0_bind 55 = .ok (.aload_n 0, 1) := dk_42 (dk_at dksX0_bind_2 9 rfl rfl)
theorem dX0_bind_56 : decode cX0_bind 56 = .ok (.invokevirtual 360, 3) := dk_182 1 104 (dk_at dksX0_bind_2 10 rfl rfl)
theorem dX0_bind_59 : decode cX0_bind 59 = .ok (.aload_n 0, 1) := dk_42 (dk_at dksX0_bind_2 13 rfl rfl)
theorem dX0_bind_60 : decode cX0_bind 60 = .ok (.getfield 74, 3) := dk_180 0 74 (dk_at dksX0_bind_2 14 rfl rfl)
theorem dX0_bind_63 : decode cX0_bind 63 = .ok (.dup, 1) := dk_89 (dk_at dksX0_bind_2 17 rfl rfl)
theorem dX0_bind_64 : decode cX0_bind 64 = .ok (.getfield 225, 3) := dk_180 0 225 (dk_at dksX0_bind_2 18 rfl rfl)
theorem dX0_bind_67 : decode cX0_bind 67 = .ok (.iconst 1, 1) := dk_4 (dk_at dksX0_bind_2 21 rfl rfl)
theorem dX0_bind_68 : decode cX0_bind 68 = .ok (.iload_n 1, 1) := dk_27 (dk_at dksX0_bind_2 22 rfl rfl)
theorem dX0_bind_69 : decode cX0_bind 69 = .ok (.ishl, 1) := dk_120 (dk_at dksX0_bind_2 23 rfl rfl)
theorem dX0_bind_70 : decode cX0_bind 70 = .ok (.ixor, 1) := dk_130 (dk_at dksX0_bind_3 0 rfl rfl)
theorem dX0_bind_71 : decode cX0_bind 71 = .ok (.putfield 225, 3) := dk_181 0 225 (dk_at dksX0_bind_3 1 rfl rfl)
theorem dX0_bind_74 : decode cX0_bind 74 = .ok (.iconst 1, 1) := dk_4 (dk_at dksX0_bind_3 4 rfl rfl)
theorem dX0_bind_75 : decode cX0_bind 75 = .ok (.ireturn, 1) := dk_172 (dk_at dksX0_bind_3 5 rfl rfl)
abbrev cX0_hours : ByteArray := prog_1_method_61_code
def yX0_hours : MethodName := ⟨RX0, "hours", "(I)I"⟩
def dkwX0_hours_1 : List UInt8 := [180, 0, 74, 27, 182, 1, 42, 172]
abbrev dktX0_hours_1 : List UInt8 := dkwX0_hours_1 ++ []
def dkwX0_hours_0 : List UInt8 := [42, 27, 4, 16, 100, 182, 1, 35, 154, 0, 9, 42, 6, 182, 0, 125, 172, 42, 182, 1, 104, 42]
abbrev dktX0_hours_0 : List UInt8 := dkwX0_hours_0 ++ dktX0_hours_1
theorem dksX0_hours_0 : cX0_hours.data.toList.drop 0 = dktX0_hours_0 := by decide +kernel
theorem dksX0_hours_1 : cX0_hours.data.toList.drop 22 = dktX0_hours_1 := dk_seg dksX0_hours_0 22 rfl rfl
theorem dX0_hours_0 : decode cX0_hours 0 = .ok (.aload_n 0, 1) := dk_42 (dk_at dksX0_hours_0 0 rfl rfl)
theorem dX0_hours_1 : decode cX0_hours 1 = .ok (.iload_n 1, 1) := dk_27 (dk_at dksX0_hours_0 1 rfl rfl)
theorem dX0_hours_2 : decode cX0_hours 2 = .ok (.iconst 1, 1) := dk_4 (dk_at dksX0_hours_0 2 rfl rfl)
theorem dX0_hours_3 : decode cX0_hours 3 = .ok (.bipush 100, 2) := dk_16 100 (dk_at dksX0_hours_0 3 rfl rfl)
theorem dX0_hours_5 : decode cX0_hours 5 = .ok (.invokevirtual 291, 3) := dk_182 1 35 (dk_at dksX0_hours_0 5 rfl rfl)
theorem dX0_hours_8 : decode cX0_hours 8 = .ok (.ifCond .ne 9, 3) := dk_154 0 9 (dk_at dksX0_hours_0 8 rfl rfl)
theorem dX0_hours_11 : decode cX0_hours 11 = .ok (.aload_n 0, 1) := dk_42 (dk_at dksX0_hours_0 11 rfl rfl)
theorem dX0_hours_12 : decode cX0_hours 12 = .ok (.iconst 3, 1) := dk_6 (dk_at dksX0_hours_0 12 rfl rfl)
theorem dX0_hours_13 : decode cX0_hours 13 = .ok (.invokevirtual 125, 3) := dk_182 0 125 (dk_at dksX0_hours_0 13 rfl rfl)
theorem dX0_hours_16 : decode cX0_hours 16 = .ok (.ireturn, 1) := dk_172 (dk_at dksX0_hours_0 16 rfl rfl)
theorem dX0_hours_17 : decode cX0_hours 17 = .ok (.aload_n 0, 1) := dk_42 (dk_at dksX0_hours_0 17 rfl rfl)
theorem dX0_hours_18 : decode cX0_hours 18 = .ok (.invokevirtual 360, 3) := dk_182 1 104 (dk_at dksX0_hours_0 18 rfl rfl)
theorem dX0_hours_21 : decode cX0_hours 21 = .ok (.aload_n 0, 1) := dk_42 (dk_at dksX0_hours_0 21 rfl rfl)
theorem dX0_hours_22 : decode cX0_hours 22 = .ok (.getfield 74, 3) := dk_180 0 74 (dk_at dksX0_hours_1 0 rfl rfl)
theorem dX0_hours_25 : decode cX0_hours 25 = .ok (.iload_n 1, 1) := dk_27 (dk_at dksX0_hours_1 3 rfl rfl)
theorem dX0_hours_26 : decode cX0_hours 26 = .ok (.invokevirtual 298, 3) := dk_182 1 42 (dk_at dksX0_hours_1 4 rfl rfl)
theorem dX0_hours_29 : decode cX0_hours 29 = .ok (.ireturn, 1) := dk_172 (dk_at dksX0_hours_1 7 rfl rfl)
abbrev cX0_chance : ByteArray := prog_1_method_63_code
def yX0_chance : MethodName := ⟨RX0, "chance", "(I)I"⟩
def dkwX0_chance_3 : List UInt8 := [42, 180, 0, 74, 182, 1, 48, 87, 132, 3, 1, 167, 255, 199, 28, 172]
abbrev dktX0_chance_3 : List UInt8 := dkwX0_chance_3 ++ []
def dkwX0_chance_2 : List UInt8 := [182, 0, 181, 158, 0, 21, 42, 180, 0, 74, 42, 42, 182, 0, 181, 182, 1, 118, 182, 1, 83, 132, 2, 1]
abbrev dktX0_chance_2 : List UInt8 := dkwX0_chance_2 ++ dktX0_chance_3
def dkwX0_chance_1 : List UInt8 := [62, 29, 27, 162, 0, 58, 42, 16, 100, 182, 1, 118, 42, 180, 0, 31, 180, 1, 80, 162, 0, 28, 42]
abbrev dktX0_chance_1 : List UInt8 := dkwX0_chance_1 ++ dktX0_chance_2
def dkwX0_chance_0 : List UInt8 := [42, 27, 4, 16, 100, 182, 1, 35, 154, 0, 9, 42, 6, 182, 0, 125, 172, 42, 182, 1, 104, 3, 61, 3]
abbrev dktX0_chance_0 : List UInt8 := dkwX0_chance_0 ++ dktX0_chance_1
theorem dksX0_chance_0 : cX0_chance.data.toList.drop 0 = dktX0_chance_0 := by decide +kernel
theorem dksX0_chance_1 : cX0_chance.data.toList.drop 24 = dktX0_chance_1 := dk_seg dksX0_chance_0 24 rfl rfl
theorem dksX0_chance_2 : cX0_chance.data.toList.drop 47 = dktX0_chance_2 := dk_seg dksX0_chance_1 23 rfl rfl
theorem dksX0_chance_3 : cX0_chance.data.toList.drop 71 = dktX0_chance_3 := dk_seg dksX0_chance_2 24 rfl rfl
theorem dX0_chance_0 : decode cX0_chance 0 = .ok (.aload_n 0, 1) := dk_42 (dk_at dksX0_chance_0 0 rfl rfl)
theorem dX0_chance_1 : decode cX0_chance 1 = .ok (.iload_n 1, 1) := dk_27 (dk_at dksX0_chance_0 1 rfl rfl)
theorem dX0_chance_2 : decode cX0_chance 2 = .ok (.iconst 1, 1) := dk_4 (dk_at dksX0_chance_0 2 rfl rfl)
theorem dX0_chance_3 : decode cX0_chance 3 = .ok (.bipush 100, 2) := dk_16 100 (dk_at dksX0_chance_0 3 rfl rfl)
theorem dX0_chance_5 : decode cX0_chance 5 = .ok (.invokevirtual 291, 3) := dk_182 1 35 (dk_at dksX0_chance_0 5 rfl rfl)
theorem dX0_chance_8 : decode cX0_chance 8 = .ok (.ifCond .ne 9, 3) := dk_154 0 9 (dk_at dksX0_chance_0 8 rfl rfl)
theorem dX0_chance_11 : decode cX0_chance 11 = .ok (.aload_n 0, 1) := dk_42 (dk_at dksX0_chance_0 11 rfl rfl)
theorem dX0_chance_12 : decode cX0_chance 12 = .ok (.iconst 3, 1) := dk_6 (dk_at dksX0_chance_0 12 rfl rfl)
theorem dX0_chance_13 : decode cX0_chance 13 = .ok (.invokevirtual 125, 3) := dk_182 0 125 (dk_at dksX0_chance_0 13 rfl rfl)
theorem dX0_chance_16 : decode cX0_chance 16 = .ok (.ireturn, 1) := dk_172 (dk_at dksX0_chance_0 16 rfl rfl)
theorem dX0_chance_17 : decode cX0_chance 17 = .ok (.aload_n 0, 1) := dk_42 (dk_at dksX0_chance_0 17 rfl rfl)
theorem dX0_chance_18 : decode cX0_chance 18 = .ok (.invokevirtual 360, 3) := dk_182 1 104 (dk_at dksX0_chance_0 18 rfl rfl)
theorem dX0_chance_21 : decode cX0_chance 21 = .ok (.iconst 0, 1) := dk_3 (dk_at dksX0_chance_0 21 rfl rfl)
theorem dX0_chance_22 : decode cX0_chance 22 = .ok (.istore_n 2, 1) := dk_61 (dk_at dksX0_chance_0 22 rfl rfl)
theorem dX0_chance_23 : decode cX0_chance 23 = .ok (.iconst 0, 1) := dk_3 (dk_at dksX0_chance_0 23 rfl rfl)
theorem dX0_chance_24 : decode cX0_chance 24 = .ok (.istore_n 3, 1) := dk_62 (dk_at dksX0_chance_1 0 rfl rfl)
theorem dX0_chance_25 : decode cX0_chance 25 = .ok (.iload_n 3, 1) := dk_29 (dk_at dksX0_chance_1 1 rfl rfl)
theorem dX0_chance_26 : decode cX0_chance 26 = .ok (.iload_n 1, 1) := dk_27 (dk_at dksX0_chance_1 2 rfl rfl)
theorem dX0_chance_27 : decode cX0_chance 27 = .ok (.if_icmp .ge 58, 3) := dk_162 0 58 (dk_at dksX0_chance_1 3 rfl rfl)
theorem dX0_chance_30 : decode cX0_chance 30 = .ok (.aload_n 0, 1) := dk_42 (dk_at dksX0_chance_1 6 rfl rfl)
theorem dX0_chance_31 : decode cX0_chance 31 = .ok (.bipush 100, 2) := dk_16 100 (dk_at dksX0_chance_1 7 rfl rfl)
theorem dX0_chance_33 : decode cX0_chance 33 = .ok (.invokevirtual 374, 3) := dk_182 1 118 (dk_at dksX0_chance_1 9 rfl rfl)
theorem dX0_chance_36 : decode cX0_chance 36 = .ok (.aload_n 0, 1) := dk_42 (dk_at dksX0_chance_1 12 rfl rfl)
theorem dX0_chance_37 : decode cX0_chance 37 = .ok (.getfield 31, 3) := dk_180 0 31 (dk_at dksX0_chance_1 13 rfl rfl)
theorem dX0_chance_40 : decode cX0_chance 40 = .ok (.getfield 336, 3) := dk_180 1 80 (dk_at dksX0_chance_1 16 rfl rfl)
theorem dX0_chance_43 : decode cX0_chance 43 = .ok (.if_icmp .ge 28, 3) := dk_162 0 28 (dk_at dksX0_chance_1 19 rfl rfl)
theorem dX0_chance_46 : decode cX0_chance 46 = .ok (.aload_n 0, 1) := dk_42 (dk_at dksX0_chance_1 22 rfl rfl)
theorem dX0_chance_47 : decode cX0_chance 47 = .ok (.invokevirtual 181, 3) := dk_182 0 181 (dk_at dksX0_chance_2 0 rfl rfl)
theorem dX0_chance_50 : decode cX0_chance 50 = .ok (.ifCond .le 21, 3) := dk_158 0 21 (dk_at dksX0_chance_2 3 rfl rfl)
theorem dX0_chance_53 : decode cX0_chance 53 = .ok (.aload_n 0, 1) := dk_42 (dk_at dksX0_chance_2 6 rfl rfl)
theorem dX0_chance_54 : decode cX0_chance 54 = .ok (.getfield 74, 3) := dk_180 0 74 (dk_at dksX0_chance_2 7 rfl rfl)
theorem dX0_chance_57 : decode cX0_chance 57 = .ok (.aload_n 0, 1) := dk_42 (dk_at dksX0_chance_2 10 rfl rfl)
theorem dX0_chance_58 : decode cX0_chance 58 = .ok (.aload_n 0, 1) := dk_42 (dk_at dksX0_chance_2 11 rfl rfl)
theorem dX0_chance_59 : decode cX0_chance 59 = .ok (.invokevirtual 181, 3) := dk_182 0 181 (dk_at dksX0_chance_2 12 rfl rfl)
theorem dX0_chance_62 : decode cX0_chance 62 = .ok (.invokevirtual 374, 3) := dk_182 1 118 (dk_at dksX0_chance_2 15 rfl rfl)
theorem dX0_chance_65 : decode cX0_chance 65 = .ok (.invokevirtual 339, 3) := dk_182 1 83 (dk_at dksX0_chance_2 18 rfl rfl)
theorem dX0_chance_68 : decode cX0_chance 68 = .ok (.iinc 2 1, 3) := dk_132 2 1 (dk_at dksX0_chance_2 21 rfl rfl)
theorem dX0_chance_71 : decode cX0_chance 71 = .ok (.aload_n 0, 1) := dk_42 (dk_at dksX0_chance_3 0 rfl rfl)
theorem dX0_chance_72 : decode cX0_chance 72 = .ok (.getfield 74, 3) := dk_180 0 74 (dk_at dksX0_chance_3 1 rfl rfl)
theorem dX0_chance_75 : decode cX0_chance 75 = .ok (.invokevirtual 304, 3) := dk_182 1 48 (dk_at dksX0_chance_3 4 rfl rfl)
theorem dX0_chance_78 : decode cX0_chance 78 = .ok (.pop, 1) := dk_87 (dk_at dksX0_chance_3 7 rfl rfl)
theorem dX0_chance_79 : decode cX0_chance 79 = .ok (.iinc 3 1, 3) := dk_132 3 1 (dk_at dksX0_chance_3 8 rfl rfl)
theorem dX0_chance_82 : decode cX0_chance 82 = .ok (.goto (-57), 3) := dk_167 255 199 (dk_at dksX0_chance_3 11 rfl rfl)
theorem dX0_chance_85 : decode cX0_chance 85 = .ok (.iload_n 2, 1) := dk_28 (dk_at dksX0_chance_3 14 rfl rfl)
theorem dX0_chance_86 : decode cX0_chance 86 = .ok (.ireturn, 1) := dk_172 (dk_at dksX0_chance_3 15 rfl rfl)
abbrev cX0_draw : ByteArray := prog_1_method_62_code
def yX0_draw : MethodName := ⟨RX0, "draw", "(I)I"⟩
def dkwX0_draw_1 : List UInt8 := [20, 1, 116, 109, 27, 133, 113, 136, 172]
abbrev dktX0_draw_1 : List UInt8 := dkwX0_draw_1 ++ []
def dkwX0_draw_0 : List UInt8 := [42, 20, 1, 110, 42, 180, 0, 115, 105, 20, 1, 112, 97, 20, 1, 114, 113, 181, 0, 115, 42, 180, 0, 115]
abbrev dktX0_draw_0 : List UInt8 := dkwX0_draw_0 ++ dktX0_draw_1
theorem dksX0_draw_0 : cX0_draw.data.toList.drop 0 = dktX0_draw_0 := by decide +kernel
theorem dksX0_draw_1 : cX0_draw.data.toList.drop 24 = dktX0_draw_1 := dk_seg dksX0_draw_0 24 rfl rfl
theorem dX0_draw_0 : decode cX0_draw 0 = .ok (.aload_n 0, 1) := dk_42 (dk_at dksX0_draw_0 0 rfl rfl)
theorem dX0_draw_1 : decode cX0_draw 1 = .ok (.ldc2_w 366, 3) := dk_20 1 110 (dk_at dksX0_draw_0 1 rfl rfl)
theorem dX0_draw_4 : decode cX0_draw 4 = .ok (.aload_n 0, 1) := dk_42 (dk_at dksX0_draw_0 4 rfl rfl)
theorem dX0_draw_5 : decode cX0_draw 5 = .ok (.getfield 115, 3) := dk_180 0 115 (dk_at dksX0_draw_0 5 rfl rfl)
theorem dX0_draw_8 : decode cX0_draw 8 = .ok (.lmul, 1) := dk_105 (dk_at dksX0_draw_0 8 rfl rfl)
theorem dX0_draw_9 : decode cX0_draw 9 = .ok (.ldc2_w 368, 3) := dk_20 1 112 (dk_at dksX0_draw_0 9 rfl rfl)
theorem dX0_draw_12 : decode cX0_draw 12 = .ok (.ladd, 1) := dk_97 (dk_at dksX0_draw_0 12 rfl rfl)
theorem dX0_draw_13 : decode cX0_draw 13 = .ok (.ldc2_w 370, 3) := dk_20 1 114 (dk_at dksX0_draw_0 13 rfl rfl)
theorem dX0_draw_16 : decode cX0_draw 16 = .ok (.lrem, 1) := dk_113 (dk_at dksX0_draw_0 16 rfl rfl)
theorem dX0_draw_17 : decode cX0_draw 17 = .ok (.putfield 115, 3) := dk_181 0 115 (dk_at dksX0_draw_0 17 rfl rfl)
theorem dX0_draw_20 : decode cX0_draw 20 = .ok (.aload_n 0, 1) := dk_42 (dk_at dksX0_draw_0 20 rfl rfl)
theorem dX0_draw_21 : decode cX0_draw 21 = .ok (.getfield 115, 3) := dk_180 0 115 (dk_at dksX0_draw_0 21 rfl rfl)
theorem dX0_draw_24 : decode cX0_draw 24 = .ok (.ldc2_w 372, 3) := dk_20 1 116 (dk_at dksX0_draw_1 0 rfl rfl)
theorem dX0_draw_27 : decode cX0_draw 27 = .ok (.ldiv, 1) := dk_109 (dk_at dksX0_draw_1 3 rfl rfl)
theorem dX0_draw_28 : decode cX0_draw 28 = .ok (.iload_n 1, 1) := dk_27 (dk_at dksX0_draw_1 4 rfl rfl)
theorem dX0_draw_29 : decode cX0_draw 29 = .ok (.i2l, 1) := dk_133 (dk_at dksX0_draw_1 5 rfl rfl)
theorem dX0_draw_30 : decode cX0_draw 30 = .ok (.lrem, 1) := dk_113 (dk_at dksX0_draw_1 6 rfl rfl)
theorem dX0_draw_31 : decode cX0_draw 31 = .ok (.l2i, 1) := dk_136 (dk_at dksX0_draw_1 7 rfl rfl)
theorem dX0_draw_32 : decode cX0_draw 32 = .ok (.ireturn, 1) := dk_172 (dk_at dksX0_draw_1 8 rfl rfl)
abbrev cX0_seed : ByteArray := prog_1_method_64_code
def yX0_seed : MethodName := ⟨RX0, "seed", "(I)Z"⟩
def dkwX0_seed_1 : List UInt8 := [4, 172]
abbrev dktX0_seed_1 : List UInt8 := dkwX0_seed_1 ++ []
def dkwX0_seed_0 : List UInt8 := [27, 156, 0, 17, 42, 8, 182, 0, 125, 155, 0, 7, 4, 167, 0, 4, 3, 172, 42, 27, 133, 181, 0, 115]
abbrev dktX0_seed_0 : List UInt8 := dkwX0_seed_0 ++ dktX0_seed_1
theorem dksX0_seed_0 : cX0_seed.data.toList.drop 0 = dktX0_seed_0 := by decide +kernel
theorem dksX0_seed_1 : cX0_seed.data.toList.drop 24 = dktX0_seed_1 := dk_seg dksX0_seed_0 24 rfl rfl
theorem dX0_seed_0 : decode cX0_seed 0 = .ok (.iload_n 1, 1) := dk_27 (dk_at dksX0_seed_0 0 rfl rfl)
theorem dX0_seed_1 : decode cX0_seed 1 = .ok (.ifCond .ge 17, 3) := dk_156 0 17 (dk_at dksX0_seed_0 1 rfl rfl)
theorem dX0_seed_4 : decode cX0_seed 4 = .ok (.aload_n 0, 1) := dk_42 (dk_at dksX0_seed_0 4 rfl rfl)
theorem dX0_seed_5 : decode cX0_seed 5 = .ok (.iconst 5, 1) := dk_8 (dk_at dksX0_seed_0 5 rfl rfl)
theorem dX0_seed_6 : decode cX0_seed 6 = .ok (.invokevirtual 125, 3) := dk_182 0 125 (dk_at dksX0_seed_0 6 rfl rfl)
theorem dX0_seed_9 : decode cX0_seed 9 = .ok (.ifCond .lt 7, 3) := dk_155 0 7 (dk_at dksX0_seed_0 9 rfl rfl)
theorem dX0_seed_12 : decode cX0_seed 12 = .ok (.iconst 1, 1) := dk_4 (dk_at dksX0_seed_0 12 rfl rfl)
theorem dX0_seed_13 : decode cX0_seed 13 = .ok (.goto 4, 3) := dk_167 0 4 (dk_at dksX0_seed_0 13 rfl rfl)
theorem dX0_seed_16 : decode cX0_seed 16 = .ok (.iconst 0, 1) := dk_3 (dk_at dksX0_seed_0 16 rfl rfl)
theorem dX0_seed_17 : decode cX0_seed 17 = .ok (.ireturn, 1) := dk_172 (dk_at dksX0_seed_0 17 rfl rfl)
theorem dX0_seed_18 : decode cX0_seed 18 = .ok (.aload_n 0, 1) := dk_42 (dk_at dksX0_seed_0 18 rfl rfl)
theorem dX0_seed_19 : decode cX0_seed 19 = .ok (.iload_n 1, 1) := dk_27 (dk_at dksX0_seed_0 19 rfl rfl)
theorem dX0_seed_20 : decode cX0_seed 20 = .ok (.i2l, 1) := dk_133 (dk_at dksX0_seed_0 20 rfl rfl)
theorem dX0_seed_21 : decode cX0_seed 21 = .ok (.putfield 115, 3) := dk_181 0 115 (dk_at dksX0_seed_0 21 rfl rfl)
theorem dX0_seed_24 : decode cX0_seed 24 = .ok (.iconst 1, 1) := dk_4 (dk_at dksX0_seed_1 0 rfl rfl)
theorem dX0_seed_25 : decode cX0_seed 25 = .ok (.ireturn, 1) := dk_172 (dk_at dksX0_seed_1 1 rfl rfl)
abbrev cX0_ask : ByteArray := prog_1_method_66_code
def yX0_ask : MethodName := ⟨RX0, "ask", "()J"⟩
def dkwX0_ask_8 : List UInt8 := [182, 1, 136, 42, 89, 180, 1, 121, 4, 96, 181, 1, 121, 167, 255, 105, 44, 182, 1, 142, 173]
abbrev dktX0_ask_8 : List UInt8 := dkwX0_ask_8 ++ []
def dkwX0_ask_7 : List UInt8 := [16, 6, 42, 42, 180, 1, 121, 182, 0, 244, 180, 0, 248, 133, 80, 44, 42, 180, 1, 121, 42, 180, 0, 59]
abbrev dktX0_ask_7 : List UInt8 := dkwX0_ask_7 ++ dktX0_ask_8
def dkwX0_ask_6 : List UInt8 := [46, 133, 80, 42, 180, 0, 59, 180, 1, 132, 8, 42, 180, 1, 121, 133, 80, 42, 180, 0, 59, 180, 1, 132]
abbrev dktX0_ask_6 : List UInt8 := dkwX0_ask_6 ++ dktX0_ask_7
def dkwX0_ask_5 : List UInt8 := [180, 0, 211, 133, 80, 42, 180, 0, 59, 180, 1, 132, 7, 42, 180, 0, 74, 180, 1, 1, 42, 180, 1, 121]
abbrev dktX0_ask_5 : List UInt8 := dkwX0_ask_5 ++ dktX0_ask_6
def dkwX0_ask_4 : List UInt8 := [180, 1, 121, 182, 0, 244, 180, 0, 251, 133, 80, 42, 180, 0, 59, 180, 1, 132, 6, 42, 180, 0, 74]
abbrev dktX0_ask_4 : List UInt8 := dkwX0_ask_4 ++ dktX0_ask_5
def dkwX0_ask_3 : List UInt8 := [42, 180, 0, 74, 180, 0, 254, 42, 180, 1, 121, 46, 133, 80, 42, 180, 0, 59, 180, 1, 132, 4, 42, 42]
abbrev dktX0_ask_3 : List UInt8 := dkwX0_ask_3 ++ dktX0_ask_4
def dkwX0_ask_2 : List UInt8 := [42, 3, 181, 1, 121, 42, 180, 1, 121, 42, 182, 0, 181, 162, 0, 146, 42, 180, 0, 59, 180, 1, 132, 3]
abbrev dktX0_ask_2 : List UInt8 := dkwX0_ask_2 ++ dktX0_ask_3
def dkwX0_ask_1 : List UInt8 := [167, 0, 24, 78, 42, 45, 180, 0, 146, 181, 0, 133, 42, 45, 180, 0, 149, 181, 0, 39, 20, 1, 130, 173]
abbrev dktX0_ask_1 : List UInt8 := dkwX0_ask_1 ++ dktX0_ask_2
def dkwX0_ask_0 : List UInt8 := [42, 182, 0, 136, 60, 42, 3, 181, 0, 133, 42, 2, 181, 0, 39, 42, 180, 0, 48, 27, 182, 1, 126, 77]
abbrev dktX0_ask_0 : List UInt8 := dkwX0_ask_0 ++ dktX0_ask_1
theorem dksX0_ask_0 : cX0_ask.data.toList.drop 0 = dktX0_ask_0 := by decide +kernel
theorem dksX0_ask_1 : cX0_ask.data.toList.drop 24 = dktX0_ask_1 := dk_seg dksX0_ask_0 24 rfl rfl
theorem dksX0_ask_2 : cX0_ask.data.toList.drop 48 = dktX0_ask_2 := dk_seg dksX0_ask_1 24 rfl rfl
theorem dksX0_ask_3 : cX0_ask.data.toList.drop 72 = dktX0_ask_3 := dk_seg dksX0_ask_2 24 rfl rfl
theorem dksX0_ask_4 : cX0_ask.data.toList.drop 96 = dktX0_ask_4 := dk_seg dksX0_ask_3 24 rfl rfl
theorem dksX0_ask_5 : cX0_ask.data.toList.drop 119 = dktX0_ask_5 := dk_seg dksX0_ask_4 23 rfl rfl
theorem dksX0_ask_6 : cX0_ask.data.toList.drop 143 = dktX0_ask_6 := dk_seg dksX0_ask_5 24 rfl rfl
theorem dksX0_ask_7 : cX0_ask.data.toList.drop 167 = dktX0_ask_7 := dk_seg dksX0_ask_6 24 rfl rfl
theorem dksX0_ask_8 : cX0_ask.data.toList.drop 191 = dktX0_ask_8 := dk_seg dksX0_ask_7 24 rfl rfl
theorem dX0_ask_0 : decode cX0_ask 0 = .ok (.aload_n 0, 1) := dk_42 (dk_at dksX0_ask_0 0 rfl rfl)
theorem dX0_ask_1 : decode cX0_ask 1 = .ok (.invokevirtual 136, 3) := dk_182 0 136 (dk_at dksX0_ask_0 1 rfl rfl)
theorem dX0_ask_4 : decode cX0_ask 4 = .ok (.istore_n 1, 1) := dk_60 (dk_at dksX0_ask_0 4 rfl rfl)
theorem dX0_ask_5 : decode cX0_ask 5 = .ok (.aload_n 0, 1) := dk_42 (dk_at dksX0_ask_0 5 rfl rfl)
theorem dX0_ask_6 : decode cX0_ask 6 = .ok (.iconst 0, 1) := dk_3 (dk_at dksX0_ask_0 6 rfl rfl)
theorem dX0_ask_7 : decode cX0_ask 7 = .ok (.putfield 133, 3) := dk_181 0 133 (dk_at dksX0_ask_0 7 rfl rfl)
theorem dX0_ask_10 : decode cX0_ask 10 = .ok (.aload_n 0, 1) := dk_42 (dk_at dksX0_ask_0 10 rfl rfl)
theorem dX0_ask_11 : decode cX0_ask 11 = .ok (.iconst (-1), 1) := dk_2 (dk_at dksX0_ask_0 11 rfl rfl)
theorem dX0_ask_12 : decode cX0_ask 12 = .ok (.putfield 39, 3) := dk_181 0 39 (dk_at dksX0_ask_0 12 rfl rfl)
theorem dX0_ask_15 : decode cX0_ask 15 = .ok (.aload_n 0, 1) := dk_42 (dk_at dksX0_ask_0 15 rfl rfl)
theorem dX0_ask_16 : decode cX0_ask 16 = .ok (.getfield 48, 3) := dk_180 0 48 (dk_at dksX0_ask_0 16 rfl rfl)
theorem dX0_ask_19 : decode cX0_ask 19 = .ok (.iload_n 1, 1) := dk_27 (dk_at dksX0_ask_0 19 rfl rfl)
theorem dX0_ask_20 : decode cX0_ask 20 = .ok (.invokevirtual 382, 3) := dk_182 1 126 (dk_at dksX0_ask_0 20 rfl rfl)
theorem dX0_ask_23 : decode cX0_ask 23 = .ok (.astore_n 2, 1) := dk_77 (dk_at dksX0_ask_0 23 rfl rfl)
theorem dX0_ask_24 : decode cX0_ask 24 = .ok (.goto 24, 3) := dk_167 0 24 (dk_at dksX0_ask_1 0 rfl rfl)
theorem dX0_ask_27 : decode cX0_ask 27 = .ok (.astore_n 3, 1) := dk_78 (dk_at dksX0_ask_1 3 rfl rfl)
theorem dX0_ask_28 : decode cX0_ask 28 = .ok (.aload_n 0, 1) := dk_42 (dk_at dksX0_ask_1 4 rfl rfl)
theorem dX0_ask_29 : decode cX0_ask 29 = .ok (.aload_n 3, 1) := dk_45 (dk_at dksX0_ask_1 5 rfl rfl)
theorem dX0_ask_30 : decode cX0_ask 30 = .ok (.getfield 146, 3) := dk_180 0 146 (dk_at dksX0_ask_1 6 rfl rfl)
theorem dX0_ask_33 : decode cX0_ask 33 = .ok (.putfield 133, 3) := dk_181 0 133 (dk_at dksX0_ask_1 9 rfl rfl)
theorem dX0_ask_36 : decode cX0_ask 36 = .ok (.aload_n 0, 1) := dk_42 (dk_at dksX0_ask_1 12 rfl rfl)
theorem dX0_ask_37 : decode cX0_ask 37 = .ok (.aload_n 3, 1) := dk_45 (dk_at dksX0_ask_1 13 rfl rfl)
theorem dX0_ask_38 : decode cX0_ask 38 = .ok (.getfield 149, 3) := dk_180 0 149 (dk_at dksX0_ask_1 14 rfl rfl)
theorem dX0_ask_41 : decode cX0_ask 41 = .ok (.putfield 39, 3) := dk_181 0 39 (dk_at dksX0_ask_1 17 rfl rfl)
theorem dX0_ask_44 : decode cX0_ask 44 = .ok (.ldc2_w 386, 3) := dk_20 1 130 (dk_at dksX0_ask_1 20 rfl rfl)
theorem dX0_ask_47 : decode cX0_ask 47 = .ok (.lreturn, 1) := dk_173 (dk_at dksX0_ask_1 23 rfl rfl)
theorem dX0_ask_48 : decode cX0_ask 48 = .ok (.aload_n 0, 1) := dk_42 (dk_at dksX0_ask_2 0 rfl rfl)
theorem dX0_ask_49 : decode cX0_ask 49 = .ok (.iconst 0, 1) := dk_3 (dk_at dksX0_ask_2 1 rfl rfl)
theorem dX0_ask_50 : decode cX0_ask 50 = .ok (.putfield 377, 3) := dk_181 1 121 (dk_at dksX0_ask_2 2 rfl rfl)
theorem dX0_ask_53 : decode cX0_ask 53 = .ok (.aload_n 0, 1) := dk_42 (dk_at dksX0_ask_2 5 rfl rfl)
theorem dX0_ask_54 : decode cX0_ask 54 = .ok (.getfield 377, 3) := dk_180 1 121 (dk_at dksX0_ask_2 6 rfl rfl)
theorem dX0_ask_57 : decode cX0_ask 57 = .ok (.aload_n 0, 1) := dk_42 (dk_at dksX0_ask_2 9 rfl rfl)
theorem dX0_ask_58 : decode cX0_ask 58 = .ok (.invokevirtual 181, 3) := dk_182 0 181 (dk_at dksX0_ask_2 10 rfl rfl)
theorem dX0_ask_61 : decode cX0_ask 61 = .ok (.if_icmp .ge 146, 3) := dk_162 0 146 (dk_at dksX0_ask_2 13 rfl rfl)
theorem dX0_ask_64 : decode cX0_ask 64 = .ok (.aload_n 0, 1) := dk_42 (dk_at dksX0_ask_2 16 rfl rfl)
theorem dX0_ask_65 : decode cX0_ask 65 = .ok (.getfield 59, 3) := dk_180 0 59 (dk_at dksX0_ask_2 17 rfl rfl)
theorem dX0_ask_68 : decode cX0_ask 68 = .ok (.getfield 388, 3) := dk_180 1 132 (dk_at dksX0_ask_2 20 rfl rfl)
theorem dX0_ask_71 : decode cX0_ask 71 = .ok (.iconst 0, 1) := dk_3 (dk_at dksX0_ask_2 23 rfl rfl)
theorem dX0_ask_72 : decode cX0_ask 72 = .ok (.aload_n 0, 1) := dk_42 (dk_at dksX0_ask_3 0 rfl rfl)
theorem dX0_ask_73 : decode cX0_ask 73 = .ok (.getfield 74, 3) := dk_180 0 74 (dk_at dksX0_ask_3 1 rfl rfl)
theorem dX0_ask_76 : decode cX0_ask 76 = .ok (.getfield 254, 3) := dk_180 0 254 (dk_at dksX0_ask_3 4 rfl rfl)
theorem dX0_ask_79 : decode cX0_ask 79 = .ok (.aload_n 0, 1) := dk_42 (dk_at dksX0_ask_3 7 rfl rfl)
theorem dX0_ask_80 : decode cX0_ask 80 = .ok (.getfield 377, 3) := dk_180 1 121 (dk_at dksX0_ask_3 8 rfl rfl)
theorem dX0_ask_83 : decode cX0_ask 83 = .ok (.iaload, 1) := dk_46 (dk_at dksX0_ask_3 11 rfl rfl)
theorem dX0_ask_84 : decode cX0_ask 84 = .ok (.i2l, 1) := dk_133 (dk_at dksX0_ask_3 12 rfl rfl)
theorem dX0_ask_85 : decode cX0_ask 85 = .ok (.lastore, 1) := dk_80 (dk_at dksX0_ask_3 13 rfl rfl)
theorem dX0_ask_86 : decode cX0_ask 86 = .ok (.aload_n 0, 1) := dk_42 (dk_at dksX0_ask_3 14 rfl rfl)
theorem dX0_ask_87 : decode cX0_ask 87 = .ok (.getfield 59, 3) := dk_180 0 59 (dk_at dksX0_ask_3 15 rfl rfl)
theorem dX0_ask_90 : decode cX0_ask 90 = .ok (.getfield 388, 3) := dk_180 1 132 (dk_at dksX0_ask_3 18 rfl rfl)
theorem dX0_ask_93 : decode cX0_ask 93 = .ok (.iconst 1, 1) := dk_4 (dk_at dksX0_ask_3 21 rfl rfl)
theorem dX0_ask_94 : decode cX0_ask 94 = .ok (.aload_n 0, 1) := dk_42 (dk_at dksX0_ask_3 22 rfl rfl)
theorem dX0_ask_95 : decode cX0_ask 95 = .ok (.aload_n 0, 1) := dk_42 (dk_at dksX0_ask_3 23 rfl rfl)
theorem dX0_ask_96 : decode cX0_ask 96 = .ok (.getfield 377, 3) := dk_180 1 121 (dk_at dksX0_ask_4 0 rfl rfl)
theorem dX0_ask_99 : decode cX0_ask 99 = .ok (.invokevirtual 244, 3) := dk_182 0 244 (dk_at dksX0_ask_4 3 rfl rfl)
theorem dX0_ask_102 : decode cX0_ask 102 = .ok (.getfield 251, 3) := dk_180 0 251 (dk_at dksX0_ask_4 6 rfl rfl)
theorem dX0_ask_105 : decode cX0_ask 105 = .ok (.i2l, 1) := dk_133 (dk_at dksX0_ask_4 9 rfl rfl)
theorem dX0_ask_106 : decode cX0_ask 106 = .ok (.lastore, 1) := dk_80 (dk_at dksX0_ask_4 10 rfl rfl)
theorem dX0_ask_107 : decode cX0_ask 107 = .ok (.aload_n 0, 1) := dk_42 (dk_at dksX0_ask_4 11 rfl rfl)
theorem dX0_ask_108 : decode cX0_ask 108 = .ok (.getfield 59, 3) := dk_180 0 59 (dk_at dksX0_ask_4 12 rfl rfl)
theorem dX0_ask_111 : decode cX0_ask 111 = .ok (.getfield 388, 3) := dk_180 1 132 (dk_at dksX0_ask_4 15 rfl rfl)
theorem dX0_ask_114 : decode cX0_ask 114 = .ok (.iconst 3, 1) := dk_6 (dk_at dksX0_ask_4 18 rfl rfl)
theorem dX0_ask_115 : decode cX0_ask 115 = .ok (.aload_n 0, 1) := dk_42 (dk_at dksX0_ask_4 19 rfl rfl)
theorem dX0_ask_116 : decode cX0_ask 116 = .ok (.getfield 74, 3) := dk_180 0 74 (dk_at dksX0_ask_4 20 rfl rfl)
theorem dX0_ask_119 : decode cX0_ask 119 = .ok (.getfield 211, 3) := dk_180 0 211 (dk_at dksX0_ask_5 0 rfl rfl)
theorem dX0_ask_122 : decode cX0_ask 122 = .ok (.i2l, 1) := dk_133 (dk_at dksX0_ask_5 3 rfl rfl)
theorem dX0_ask_123 : decode cX0_ask 123 = .ok (.lastore, 1) := dk_80 (dk_at dksX0_ask_5 4 rfl rfl)
theorem dX0_ask_124 : decode cX0_ask 124 = .ok (.aload_n 0, 1) := dk_42 (dk_at dksX0_ask_5 5 rfl rfl)
theorem dX0_ask_125 : decode cX0_ask 125 = .ok (.getfield 59, 3) := dk_180 0 59 (dk_at dksX0_ask_5 6 rfl rfl)
theorem dX0_ask_128 : decode cX0_ask 128 = .ok (.getfield 388, 3) := dk_180 1 132 (dk_at dksX0_ask_5 9 rfl rfl)
theorem dX0_ask_131 : decode cX0_ask 131 = .ok (.iconst 4, 1) := dk_7 (dk_at dksX0_ask_5 12 rfl rfl)
theorem dX0_ask_132 : decode cX0_ask 132 = .ok (.aload_n 0, 1) := dk_42 (dk_at dksX0_ask_5 13 rfl rfl)
theorem dX0_ask_133 : decode cX0_ask 133 = .ok (.getfield 74, 3) := dk_180 0 74 (dk_at dksX0_ask_5 14 rfl rfl)
theorem dX0_ask_136 : decode cX0_ask 136 = .ok (.getfield 257, 3) := dk_180 1 1 (dk_at dksX0_ask_5 17 rfl rfl)
theorem dX0_ask_139 : decode cX0_ask 139 = .ok (.aload_n 0, 1) := dk_42 (dk_at dksX0_ask_5 20 rfl rfl)
theorem dX0_ask_140 : decode cX0_ask 140 = .ok (.getfield 377, 3) := dk_180 1 121 (dk_at dksX0_ask_5 21 rfl rfl)
theorem dX0_ask_143 : decode cX0_ask 143 = .ok (.iaload, 1) := dk_46 (dk_at dksX0_ask_6 0 rfl rfl)
theorem dX0_ask_144 : decode cX0_ask 144 = .ok (.i2l, 1) := dk_133 (dk_at dksX0_ask_6 1 rfl rfl)
theorem dX0_ask_145 : decode cX0_ask 145 = .ok (.lastore, 1) := dk_80 (dk_at dksX0_ask_6 2 rfl rfl)
theorem dX0_ask_146 : decode cX0_ask 146 = .ok (.aload_n 0, 1) := dk_42 (dk_at dksX0_ask_6 3 rfl rfl)
theorem dX0_ask_147 : decode cX0_ask 147 = .ok (.getfield 59, 3) := dk_180 0 59 (dk_at dksX0_ask_6 4 rfl rfl)
theorem dX0_ask_150 : decode cX0_ask 150 = .ok (.getfield 388, 3) := dk_180 1 132 (dk_at dksX0_ask_6 7 rfl rfl)
theorem dX0_ask_153 : decode cX0_ask 153 = .ok (.iconst 5, 1) := dk_8 (dk_at dksX0_ask_6 10 rfl rfl)
theorem dX0_ask_154 : decode cX0_ask 154 = .ok (.aload_n 0, 1) := dk_42 (dk_at dksX0_ask_6 11 rfl rfl)
theorem dX0_ask_155 : decode cX0_ask 155 = .ok (.getfield 377, 3) := dk_180 1 121 (dk_at dksX0_ask_6 12 rfl rfl)
theorem dX0_ask_158 : decode cX0_ask 158 = .ok (.i2l, 1) := dk_133 (dk_at dksX0_ask_6 15 rfl rfl)
theorem dX0_ask_159 : decode cX0_ask 159 = .ok (.lastore, 1) := dk_80 (dk_at dksX0_ask_6 16 rfl rfl)
theorem dX0_ask_160 : decode cX0_ask 160 = .ok (.aload_n 0, 1) := dk_42 (dk_at dksX0_ask_6 17 rfl rfl)
theorem dX0_ask_161 : decode cX0_ask 161 = .ok (.getfield 59, 3) := dk_180 0 59 (dk_at dksX0_ask_6 18 rfl rfl)
theorem dX0_ask_164 : decode cX0_ask 164 = .ok (.getfield 388, 3) := dk_180 1 132 (dk_at dksX0_ask_6 21 rfl rfl)
theorem dX0_ask_167 : decode cX0_ask 167 = .ok (.bipush 6, 2) := dk_16 6 (dk_at dksX0_ask_7 0 rfl rfl)
theorem dX0_ask_169 : decode cX0_ask 169 = .ok (.aload_n 0, 1) := dk_42 (dk_at dksX0_ask_7 2 rfl rfl)
theorem dX0_ask_170 : decode cX0_ask 170 = .ok (.aload_n 0, 1) := dk_42 (dk_at dksX0_ask_7 3 rfl rfl)
theorem dX0_ask_171 : decode cX0_ask 171 = .ok (.getfield 377, 3) := dk_180 1 121 (dk_at dksX0_ask_7 4 rfl rfl)
theorem dX0_ask_174 : decode cX0_ask 174 = .ok (.invokevirtual 244, 3) := dk_182 0 244 (dk_at dksX0_ask_7 7 rfl rfl)
theorem dX0_ask_177 : decode cX0_ask 177 = .ok (.getfield 248, 3) := dk_180 0 248 (dk_at dksX0_ask_7 10 rfl rfl)
theorem dX0_ask_180 : decode cX0_ask 180 = .ok (.i2l, 1) := dk_133 (dk_at dksX0_ask_7 13 rfl rfl)
theorem dX0_ask_181 : decode cX0_ask 181 = .ok (.lastore, 1) := dk_80 (dk_at dksX0_ask_7 14 rfl rfl)
theorem dX0_ask_182 : decode cX0_ask 182 = .ok (.aload_n 2, 1) := dk_44 (dk_at dksX0_ask_7 15 rfl rfl)
theorem dX0_ask_183 : decode cX0_ask 183 = .ok (.aload_n 0, 1) := dk_42 (dk_at dksX0_ask_7 16 rfl rfl)
theorem dX0_ask_184 : decode cX0_ask 184 = .ok (.getfield 377, 3) := dk_180 1 121 (dk_at dksX0_ask_7 17 rfl rfl)
theorem dX0_ask_187 : decode cX0_ask 187 = .ok (.aload_n 0, 1) := dk_42 (dk_at dksX0_ask_7 20 rfl rfl)
theorem dX0_ask_188 : decode cX0_ask 188 = .ok (.getfield 59, 3) := dk_180 0 59 (dk_at dksX0_ask_7 21 rfl rfl)
theorem dX0_ask_191 : decode cX0_ask 191 = .ok (.invokevirtual 392, 3) := dk_182 1 136 (dk_at dksX0_ask_8 0 rfl rfl)
theorem dX0_ask_194 : decode cX0_ask 194 = .ok (.aload_n 0, 1) := dk_42 (dk_at dksX0_ask_8 3 rfl rfl)
theorem dX0_ask_195 : decode cX0_ask 195 = .ok (.dup, 1) := dk_89 (dk_at dksX0_ask_8 4 rfl rfl)
theorem dX0_ask_196 : decode cX0_ask 196 = .ok (.getfield 377, 3) := dk_180 1 121 (dk_at dksX0_ask_8 5 rfl rfl)
theorem dX0_ask_199 : decode cX0_ask 199 = .ok (.iconst 1, 1) := dk_4 (dk_at dksX0_ask_8 8 rfl rfl)
theorem dX0_ask_200 : decode cX0_ask 200 = .ok (.iadd, 1) := dk_96 (dk_at dksX0_ask_8 9 rfl rfl)
theorem dX0_ask_201 : decode cX0_ask 201 = .ok (.putfield 377, 3) := dk_181 1 121 (dk_at dksX0_ask_8 10 rfl rfl)
theorem dX0_ask_204 : decode cX0_ask 204 = .ok (.goto (-151), 3) := dk_167 255 105 (dk_at dksX0_ask_8 13 rfl rfl)
theorem dX0_ask_207 : decode cX0_ask 207 = .ok (.aload_n 2, 1) := dk_44 (dk_at dksX0_ask_8 16 rfl rfl)
theorem dX0_ask_208 : decode cX0_ask 208 = .ok (.invokevirtual 398, 3) := dk_182 1 142 (dk_at dksX0_ask_8 17 rfl rfl)
theorem dX0_ask_211 : decode cX0_ask 211 = .ok (.lreturn, 1) := dk_173 (dk_at dksX0_ask_8 20 rfl rfl)
abbrev cX0_image : ByteArray := prog_1_method_69_code
def yX0_image : MethodName := ⟨RX0, "image", "()I"⟩
def dkwX0_image_5 : List UInt8 := [167, 255, 219, 42, 42, 180, 0, 119, 42, 180, 1, 146, 184, 1, 152, 182, 1, 149, 42, 180, 1, 146, 172]
abbrev dktX0_image_5 : List UInt8 := dkwX0_image_5 ++ []
def dkwX0_image_4 : List UInt8 := [180, 0, 254, 27, 46, 182, 1, 149, 42, 42, 180, 0, 74, 180, 1, 1, 27, 46, 182, 1, 149, 132, 1, 1]
abbrev dktX0_image_4 : List UInt8 := dkwX0_image_4 ++ dktX0_image_5
def dkwX0_image_3 : List UInt8 := [182, 1, 149, 132, 1, 1, 167, 255, 222, 3, 60, 27, 42, 182, 0, 181, 162, 0, 35, 42, 42, 180, 0, 74]
abbrev dktX0_image_3 : List UInt8 := dkwX0_image_3 ++ dktX0_image_4
def dkwX0_image_2 : List UInt8 := [162, 0, 32, 42, 42, 180, 0, 74, 180, 0, 225, 27, 184, 1, 20, 153, 0, 7, 4, 167, 0, 4, 3]
abbrev dktX0_image_2 : List UInt8 := dkwX0_image_2 ++ dktX0_image_3
def dkwX0_image_1 : List UInt8 := [180, 0, 211, 182, 1, 149, 42, 42, 180, 0, 74, 180, 0, 214, 182, 1, 149, 3, 60, 27, 42, 182, 0, 183]
abbrev dktX0_image_1 : List UInt8 := dkwX0_image_1 ++ dktX0_image_2
def dkwX0_image_0 : List UInt8 := [42, 3, 181, 1, 146, 42, 42, 180, 0, 74, 180, 0, 211, 16, 8, 122, 182, 1, 149, 42, 42, 180, 0, 74]
abbrev dktX0_image_0 : List UInt8 := dkwX0_image_0 ++ dktX0_image_1
theorem dksX0_image_0 : cX0_image.data.toList.drop 0 = dktX0_image_0 := by decide +kernel
theorem dksX0_image_1 : cX0_image.data.toList.drop 24 = dktX0_image_1 := dk_seg dksX0_image_0 24 rfl rfl
theorem dksX0_image_2 : cX0_image.data.toList.drop 48 = dktX0_image_2 := dk_seg dksX0_image_1 24 rfl rfl
theorem dksX0_image_3 : cX0_image.data.toList.drop 71 = dktX0_image_3 := dk_seg dksX0_image_2 23 rfl rfl
theorem dksX0_image_4 : cX0_image.data.toList.drop 95 = dktX0_image_4 := dk_seg dksX0_image_3 24 rfl rfl
theorem dksX0_image_5 : cX0_image.data.toList.drop 119 = dktX0_image_5 := dk_seg dksX0_image_4 24 rfl rfl
theorem dX0_image_0 : decode cX0_image 0 = .ok (.aload_n 0, 1) := dk_42 (dk_at dksX0_image_0 0 rfl rfl)
theorem dX0_image_1 : decode cX0_image 1 = .ok (.iconst 0, 1) := dk_3 (dk_at dksX0_image_0 1 rfl rfl)
theorem dX0_image_2 : decode cX0_image 2 = .ok (.putfield 402, 3) := dk_181 1 146 (dk_at dksX0_image_0 2 rfl rfl)
theorem dX0_image_5 : decode cX0_image 5 = .ok (.aload_n 0, 1) := dk_42 (dk_at dksX0_image_0 5 rfl rfl)
theorem dX0_image_6 : decode cX0_image 6 = .ok (.aload_n 0, 1) := dk_42 (dk_at dksX0_image_0 6 rfl rfl)
theorem dX0_image_7 : decode cX0_image 7 = .ok (.getfield 74, 3) := dk_180 0 74 (dk_at dksX0_image_0 7 rfl rfl)
theorem dX0_image_10 : decode cX0_image 10 = .ok (.getfield 211, 3) := dk_180 0 211 (dk_at dksX0_image_0 10 rfl rfl)
theorem dX0_image_13 : decode cX0_image 13 = .ok (.bipush 8, 2) := dk_16 8 (dk_at dksX0_image_0 13 rfl rfl)
theorem dX0_image_15 : decode cX0_image 15 = .ok (.ishr, 1) := dk_122 (dk_at dksX0_image_0 15 rfl rfl)
theorem dX0_image_16 : decode cX0_image 16 = .ok (.invokevirtual 405, 3) := dk_182 1 149 (dk_at dksX0_image_0 16 rfl rfl)
theorem dX0_image_19 : decode cX0_image 19 = .ok (.aload_n 0, 1) := dk_42 (dk_at dksX0_image_0 19 rfl rfl)
theorem dX0_image_20 : decode cX0_image 20 = .ok (.aload_n 0, 1) := dk_42 (dk_at dksX0_image_0 20 rfl rfl)
theorem dX0_image_21 : decode cX0_image 21 = .ok (.getfield 74, 3) := dk_180 0 74 (dk_at dksX0_image_0 21 rfl rfl)
theorem dX0_image_24 : decode cX0_image 24 = .ok (.getfield 211, 3) := dk_180 0 211 (dk_at dksX0_image_1 0 rfl rfl)
theorem dX0_image_27 : decode cX0_image 27 = .ok (.invokevirtual 405, 3) := dk_182 1 149 (dk_at dksX0_image_1 3 rfl rfl)
theorem dX0_image_30 : decode cX0_image 30 = .ok (.aload_n 0, 1) := dk_42 (dk_at dksX0_image_1 6 rfl rfl)
theorem dX0_image_31 : decode cX0_image 31 = .ok (.aload_n 0, 1) := dk_42 (dk_at dksX0_image_1 7 rfl rfl)
theorem dX0_image_32 : decode cX0_image 32 = .ok (.getfield 74, 3) := dk_180 0 74 (dk_at dksX0_image_1 8 rfl rfl)
theorem dX0_image_35 : decode cX0_image 35 = .ok (.getfield 214, 3) := dk_180 0 214 (dk_at dksX0_image_1 11 rfl rfl)
theorem dX0_image_38 : decode cX0_image 38 = .ok (.invokevirtual 405, 3) := dk_182 1 149 (dk_at dksX0_image_1 14 rfl rfl)
theorem dX0_image_41 : decode cX0_image 41 = .ok (.iconst 0, 1) := dk_3 (dk_at dksX0_image_1 17 rfl rfl)
theorem dX0_image_42 : decode cX0_image 42 = .ok (.istore_n 1, 1) := dk_60 (dk_at dksX0_image_1 18 rfl rfl)
theorem dX0_image_43 : decode cX0_image 43 = .ok (.iload_n 1, 1) := dk_27 (dk_at dksX0_image_1 19 rfl rfl)
theorem dX0_image_44 : decode cX0_image 44 = .ok (.aload_n 0, 1) := dk_42 (dk_at dksX0_image_1 20 rfl rfl)
theorem dX0_image_45 : decode cX0_image 45 = .ok (.invokevirtual 183, 3) := dk_182 0 183 (dk_at dksX0_image_1 21 rfl rfl)
theorem dX0_image_48 : decode cX0_image 48 = .ok (.if_icmp .ge 32, 3) := dk_162 0 32 (dk_at dksX0_image_2 0 rfl rfl)
theorem dX0_image_51 : decode cX0_image 51 = .ok (.aload_n 0, 1) := dk_42 (dk_at dksX0_image_2 3 rfl rfl)
theorem dX0_image_52 : decode cX0_image 52 = .ok (.aload_n 0, 1) := dk_42 (dk_at dksX0_image_2 4 rfl rfl)
theorem dX0_image_53 : decode cX0_image 53 = .ok (.getfield 74, 3) := dk_180 0 74 (dk_at dksX0_image_2 5 rfl rfl)
theorem dX0_image_56 : decode cX0_image 56 = .ok (.getfield 225, 3) := dk_180 0 225 (dk_at dksX0_image_2 8 rfl rfl)
theorem dX0_image_59 : decode cX0_image 59 = .ok (.iload_n 1, 1) := dk_27 (dk_at dksX0_image_2 11 rfl rfl)
theorem dX0_image_60 : decode cX0_image 60 = .ok (.invokestatic 276, 3) := dk_184 1 20 (dk_at dksX0_image_2 12 rfl rfl)
theorem dX0_image_63 : decode cX0_image 63 = .ok (.ifCond .eq 7, 3) := dk_153 0 7 (dk_at dksX0_image_2 15 rfl rfl)
theorem dX0_image_66 : decode cX0_image 66 = .ok (.iconst 1, 1) := dk_4 (dk_at dksX0_image_2 18 rfl rfl)
theorem dX0_image_67 : decode cX0_image 67 = .ok (.goto 4, 3) := dk_167 0 4 (dk_at dksX0_image_2 19 rfl rfl)
theorem dX0_image_70 : decode cX0_image 70 = .ok (.iconst 0, 1) := dk_3 (dk_at dksX0_image_2 22 rfl rfl)
theorem dX0_image_71 : decode cX0_image 71 = .ok (.invokevirtual 405, 3) := dk_182 1 149 (dk_at dksX0_image_3 0 rfl rfl)
theorem dX0_image_74 : decode cX0_image 74 = .ok (.iinc 1 1, 3) := dk_132 1 1 (dk_at dksX0_image_3 3 rfl rfl)
theorem dX0_image_77 : decode cX0_image 77 = .ok (.goto (-34), 3) := dk_167 255 222 (dk_at dksX0_image_3 6 rfl rfl)
theorem dX0_image_80 : decode cX0_image 80 = .ok (.iconst 0, 1) := dk_3 (dk_at dksX0_image_3 9 rfl rfl)
theorem dX0_image_81 : decode cX0_image 81 = .ok (.istore_n 1, 1) := dk_60 (dk_at dksX0_image_3 10 rfl rfl)
theorem dX0_image_82 : decode cX0_image 82 = .ok (.iload_n 1, 1) := dk_27 (dk_at dksX0_image_3 11 rfl rfl)
theorem dX0_image_83 : decode cX0_image 83 = .ok (.aload_n 0, 1) := dk_42 (dk_at dksX0_image_3 12 rfl rfl)
theorem dX0_image_84 : decode cX0_image 84 = .ok (.invokevirtual 181, 3) := dk_182 0 181 (dk_at dksX0_image_3 13 rfl rfl)
theorem dX0_image_87 : decode cX0_image 87 = .ok (.if_icmp .ge 35, 3) := dk_162 0 35 (dk_at dksX0_image_3 16 rfl rfl)
theorem dX0_image_90 : decode cX0_image 90 = .ok (.aload_n 0, 1) := dk_42 (dk_at dksX0_image_3 19 rfl rfl)
theorem dX0_image_91 : decode cX0_image 91 = .ok (.aload_n 0, 1) := dk_42 (dk_at dksX0_image_3 20 rfl rfl)
theorem dX0_image_92 : decode cX0_image 92 = .ok (.getfield 74, 3) := dk_180 0 74 (dk_at dksX0_image_3 21 rfl rfl)
theorem dX0_image_95 : decode cX0_image 95 = .ok (.getfield 254, 3) := dk_180 0 254 (dk_at dksX0_image_4 0 rfl rfl)
theorem dX0_image_98 : decode cX0_image 98 = .ok (.iload_n 1, 1) := dk_27 (dk_at dksX0_image_4 3 rfl rfl)
theorem dX0_image_99 : decode cX0_image 99 = .ok (.iaload, 1) := dk_46 (dk_at dksX0_image_4 4 rfl rfl)
theorem dX0_image_100 : decode cX0_image 100 = .ok (.invokevirtual 405, 3) := dk_182 1 149 (dk_at dksX0_image_4 5 rfl rfl)
theorem dX0_image_103 : decode cX0_image 103 = .ok (.aload_n 0, 1) := dk_42 (dk_at dksX0_image_4 8 rfl rfl)
theorem dX0_image_104 : decode cX0_image 104 = .ok (.aload_n 0, 1) := dk_42 (dk_at dksX0_image_4 9 rfl rfl)
theorem dX0_image_105 : decode cX0_image 105 = .ok (.getfield 74, 3) := dk_180 0 74 (dk_at dksX0_image_4 10 rfl rfl)
theorem dX0_image_108 : decode cX0_image 108 = .ok (.getfield 257, 3) := dk_180 1 1 (dk_at dksX0_image_4 13 rfl rfl)
theorem dX0_image_111 : decode cX0_image 111 = .ok (.iload_n 1, 1) := dk_27 (dk_at dksX0_image_4 16 rfl rfl)
theorem dX0_image_112 : decode cX0_image 112 = .ok (.iaload, 1) := dk_46 (dk_at dksX0_image_4 17 rfl rfl)
theorem dX0_image_113 : decode cX0_image 113 = .ok (.invokevirtual 405, 3) := dk_182 1 149 (dk_at dksX0_image_4 18 rfl rfl)
theorem dX0_image_116 : decode cX0_image 116 = .ok (.iinc 1 1, 3) := dk_132 1 1 (dk_at dksX0_image_4 21 rfl rfl)
theorem dX0_image_119 : decode cX0_image 119 = .ok (.goto (-37), 3) := dk_167 255 219 (dk_at dksX0_image_5 0 rfl rfl)
theorem dX0_image_122 : decode cX0_image 122 = .ok (.aload_n 0, 1) := dk_42 (dk_at dksX0_image_5 3 rfl rfl)
theorem dX0_image_123 : decode cX0_image 123 = .ok (.aload_n 0, 1) := dk_42 (dk_at dksX0_image_5 4 rfl rfl)
theorem dX0_image_124 : decode cX0_image 124 = .ok (.getfield 119, 3) := dk_180 0 119 (dk_at dksX0_image_5 5 rfl rfl)
theorem dX0_image_127 : decode cX0_image 127 = .ok (.aload_n 0, 1) := dk_42 (dk_at dksX0_image_5 8 rfl rfl)
theorem dX0_image_128 : decode cX0_image 128 = .ok (.getfield 402, 3) := dk_180 1 146 (dk_at dksX0_image_5 9 rfl rfl)
theorem dX0_image_131 : decode cX0_image 131 = .ok (.invokestatic 408, 3) := dk_184 1 152 (dk_at dksX0_image_5 12 rfl rfl)
theorem dX0_image_134 : decode cX0_image 134 = .ok (.invokevirtual 405, 3) := dk_182 1 149 (dk_at dksX0_image_5 15 rfl rfl)
theorem dX0_image_137 : decode cX0_image 137 = .ok (.aload_n 0, 1) := dk_42 (dk_at dksX0_image_5 18 rfl rfl)
theorem dX0_image_138 : decode cX0_image 138 = .ok (.getfield 402, 3) := dk_180 1 146 (dk_at dksX0_image_5 19 rfl rfl)
theorem dX0_image_141 : decode cX0_image 141 = .ok (.ireturn, 1) := dk_172 (dk_at dksX0_image_5 22 rfl rfl)
abbrev cX0_writes : ByteArray := prog_1_method_67_code
def yX0_writes : MethodName := ⟨RX0, "writes", "(I)V"⟩
def dkwX0_writes_0 : List UInt8 := [42, 180, 0, 119, 42, 89, 180, 1, 146, 90, 4, 96, 181, 1, 146, 27, 145, 84, 177]
abbrev dktX0_writes_0 : List UInt8 := dkwX0_writes_0 ++ []
theorem dksX0_writes_0 : cX0_writes.data.toList.drop 0 = dktX0_writes_0 := by decide +kernel
theorem dX0_writes_0 : decode cX0_writes 0 = .ok (.aload_n 0, 1) := dk_42 (dk_at dksX0_writes_0 0 rfl rfl)
theorem dX0_writes_1 : decode cX0_writes 1 = .ok (.getfield 119, 3) := dk_180 0 119 (dk_at dksX0_writes_0 1 rfl rfl)
theorem dX0_writes_4 : decode cX0_writes 4 = .ok (.aload_n 0, 1) := dk_42 (dk_at dksX0_writes_0 4 rfl rfl)
theorem dX0_writes_5 : decode cX0_writes 5 = .ok (.dup, 1) := dk_89 (dk_at dksX0_writes_0 5 rfl rfl)
theorem dX0_writes_6 : decode cX0_writes 6 = .ok (.getfield 402, 3) := dk_180 1 146 (dk_at dksX0_writes_0 6 rfl rfl)
theorem dX0_writes_9 : decode cX0_writes 9 = .ok (.dup_x1, 1) := dk_90 (dk_at dksX0_writes_0 9 rfl rfl)
theorem dX0_writes_10 : decode cX0_writes 10 = .ok (.iconst 1, 1) := dk_4 (dk_at dksX0_writes_0 10 rfl rfl)
theorem dX0_writes_11 : decode cX0_writes 11 = .ok (.iadd, 1) := dk_96 (dk_at dksX0_writes_0 11 rfl rfl)
theorem dX0_writes_12 : decode cX0_writes 12 = .ok (.putfield 402, 3) := dk_181 1 146 (dk_at dksX0_writes_0 12 rfl rfl)
theorem dX0_writes_15 : decode cX0_writes 15 = .ok (.iload_n 1, 1) := dk_27 (dk_at dksX0_writes_0 15 rfl rfl)
theorem dX0_writes_16 : decode cX0_writes 16 = .ok (.i2b, 1) := dk_145 (dk_at dksX0_writes_0 16 rfl rfl)
theorem dX0_writes_17 : decode cX0_writes 17 = .ok (.bastore, 1) := dk_84 (dk_at dksX0_writes_0 17 rfl rfl)
theorem dX0_writes_18 : decode cX0_writes 18 = .ok (.return_, 1) := dk_177 (dk_at dksX0_writes_0 18 rfl rfl)
abbrev cX0_check : ByteArray := prog_1_method_68_code
def yX0_check : MethodName := ⟨RX0, "check", "([BI)I"⟩
def dkwX0_check_1 : List UInt8 := [17, 0, 251, 112, 61, 132, 3, 1, 167, 255, 232, 28, 172]
abbrev dktX0_check_1 : List UInt8 := dkwX0_check_1 ++ []
def dkwX0_check_0 : List UInt8 := [17, 0, 211, 61, 3, 62, 29, 27, 162, 0, 25, 6, 28, 104, 42, 29, 51, 17, 0, 255, 126, 96]
abbrev dktX0_check_0 : List UInt8 := dkwX0_check_0 ++ dktX0_check_1
theorem dksX0_check_0 : cX0_check.data.toList.drop 0 = dktX0_check_0 := by decide +kernel
theorem dksX0_check_1 : cX0_check.data.toList.drop 22 = dktX0_check_1 := dk_seg dksX0_check_0 22 rfl rfl
theorem dX0_check_0 : decode cX0_check 0 = .ok (.sipush 211, 3) := dk_17 0 211 (dk_at dksX0_check_0 0 rfl rfl)
theorem dX0_check_3 : decode cX0_check 3 = .ok (.istore_n 2, 1) := dk_61 (dk_at dksX0_check_0 3 rfl rfl)
theorem dX0_check_4 : decode cX0_check 4 = .ok (.iconst 0, 1) := dk_3 (dk_at dksX0_check_0 4 rfl rfl)
theorem dX0_check_5 : decode cX0_check 5 = .ok (.istore_n 3, 1) := dk_62 (dk_at dksX0_check_0 5 rfl rfl)
theorem dX0_check_6 : decode cX0_check 6 = .ok (.iload_n 3, 1) := dk_29 (dk_at dksX0_check_0 6 rfl rfl)
theorem dX0_check_7 : decode cX0_check 7 = .ok (.iload_n 1, 1) := dk_27 (dk_at dksX0_check_0 7 rfl rfl)
theorem dX0_check_8 : decode cX0_check 8 = .ok (.if_icmp .ge 25, 3) := dk_162 0 25 (dk_at dksX0_check_0 8 rfl rfl)
theorem dX0_check_11 : decode cX0_check 11 = .ok (.iconst 3, 1) := dk_6 (dk_at dksX0_check_0 11 rfl rfl)
theorem dX0_check_12 : decode cX0_check 12 = .ok (.iload_n 2, 1) := dk_28 (dk_at dksX0_check_0 12 rfl rfl)
theorem dX0_check_13 : decode cX0_check 13 = .ok (.imul, 1) := dk_104 (dk_at dksX0_check_0 13 rfl rfl)
theorem dX0_check_14 : decode cX0_check 14 = .ok (.aload_n 0, 1) := dk_42 (dk_at dksX0_check_0 14 rfl rfl)
theorem dX0_check_15 : decode cX0_check 15 = .ok (.iload_n 3, 1) := dk_29 (dk_at dksX0_check_0 15 rfl rfl)
theorem dX0_check_16 : decode cX0_check 16 = .ok (.baload, 1) := dk_51 (dk_at dksX0_check_0 16 rfl rfl)
theorem dX0_check_17 : decode cX0_check 17 = .ok (.sipush 255, 3) := dk_17 0 255 (dk_at dksX0_check_0 17 rfl rfl)
theorem dX0_check_20 : decode cX0_check 20 = .ok (.iand, 1) := dk_126 (dk_at dksX0_check_0 20 rfl rfl)
theorem dX0_check_21 : decode cX0_check 21 = .ok (.iadd, 1) := dk_96 (dk_at dksX0_check_0 21 rfl rfl)
theorem dX0_check_22 : decode cX0_check 22 = .ok (.sipush 251, 3) := dk_17 0 251 (dk_at dksX0_check_1 0 rfl rfl)
theorem dX0_check_25 : decode cX0_check 25 = .ok (.irem, 1) := dk_112 (dk_at dksX0_check_1 3 rfl rfl)
theorem dX0_check_26 : decode cX0_check 26 = .ok (.istore_n 2, 1) := dk_61 (dk_at dksX0_check_1 4 rfl rfl)
theorem dX0_check_27 : decode cX0_check 27 = .ok (.iinc 3 1, 3) := dk_132 3 1 (dk_at dksX0_check_1 5 rfl rfl)
theorem dX0_check_30 : decode cX0_check 30 = .ok (.goto (-24), 3) := dk_167 255 232 (dk_at dksX0_check_1 8 rfl rfl)
theorem dX0_check_33 : decode cX0_check 33 = .ok (.iload_n 2, 1) := dk_28 (dk_at dksX0_check_1 11 rfl rfl)
theorem dX0_check_34 : decode cX0_check 34 = .ok (.ireturn, 1) := dk_172 (dk_at dksX0_check_1 12 rfl rfl)
abbrev cX0_octet : ByteArray := prog_1_method_70_code
def yX0_octet : MethodName := ⟨RX0, "octet", "(I)I"⟩
def dkwX0_octet_1 : List UInt8 := [17, 0, 255, 126, 172]
abbrev dktX0_octet_1 : List UInt8 := dkwX0_octet_1 ++ []
def dkwX0_octet_0 : List UInt8 := [27, 155, 0, 11, 27, 42, 180, 1, 146, 161, 0, 7, 2, 167, 0, 13, 42, 180, 0, 119, 27, 51]
abbrev dktX0_octet_0 : List UInt8 := dkwX0_octet_0 ++ dktX0_octet_1
theorem dksX0_octet_0 : cX0_octet.data.toList.drop 0 = dktX0_octet_0 := by decide +kernel
theorem dksX0_octet_1 : cX0_octet.data.toList.drop 22 = dktX0_octet_1 := dk_seg dksX0_octet_0 22 rfl rfl
theorem dX0_octet_0 : decode cX0_octet 0 = .ok (.iload_n 1, 1) := dk_27 (dk_at dksX0_octet_0 0 rfl rfl)
theorem dX0_octet_1 : decode cX0_octet 1 = .ok (.ifCond .lt 11, 3) := dk_155 0 11 (dk_at dksX0_octet_0 1 rfl rfl)
theorem dX0_octet_4 : decode cX0_octet 4 = .ok (.iload_n 1, 1) := dk_27 (dk_at dksX0_octet_0 4 rfl rfl)
theorem dX0_octet_5 : decode cX0_octet 5 = .ok (.aload_n 0, 1) := dk_42 (dk_at dksX0_octet_0 5 rfl rfl)
theorem dX0_octet_6 : decode cX0_octet 6 = .ok (.getfield 402, 3) := dk_180 1 146 (dk_at dksX0_octet_0 6 rfl rfl)
theorem dX0_octet_9 : decode cX0_octet 9 = .ok (.if_icmp .lt 7, 3) := dk_161 0 7 (dk_at dksX0_octet_0 9 rfl rfl)
theorem dX0_octet_12 : decode cX0_octet 12 = .ok (.iconst (-1), 1) := dk_2 (dk_at dksX0_octet_0 12 rfl rfl)
theorem dX0_octet_13 : decode cX0_octet 13 = .ok (.goto 13, 3) := dk_167 0 13 (dk_at dksX0_octet_0 13 rfl rfl)
theorem dX0_octet_16 : decode cX0_octet 16 = .ok (.aload_n 0, 1) := dk_42 (dk_at dksX0_octet_0 16 rfl rfl)
theorem dX0_octet_17 : decode cX0_octet 17 = .ok (.getfield 119, 3) := dk_180 0 119 (dk_at dksX0_octet_0 17 rfl rfl)
theorem dX0_octet_20 : decode cX0_octet 20 = .ok (.iload_n 1, 1) := dk_27 (dk_at dksX0_octet_0 20 rfl rfl)
theorem dX0_octet_21 : decode cX0_octet 21 = .ok (.baload, 1) := dk_51 (dk_at dksX0_octet_0 21 rfl rfl)
theorem dX0_octet_22 : decode cX0_octet 22 = .ok (.sipush 255, 3) := dk_17 0 255 (dk_at dksX0_octet_1 0 rfl rfl)
theorem dX0_octet_25 : decode cX0_octet 25 = .ok (.iand, 1) := dk_126 (dk_at dksX0_octet_1 3 rfl rfl)
theorem dX0_octet_26 : decode cX0_octet 26 = .ok (.ireturn, 1) := dk_172 (dk_at dksX0_octet_1 4 rfl rfl)
abbrev cX0_on : ByteArray := prog_1_method_72_code
def yX0_on : MethodName := ⟨RX0, "on", "()Z"⟩
def dkwX0_on_1 : List UInt8 := [172, 42, 180, 0, 74, 42, 180, 0, 78, 182, 1, 38, 87, 42, 3, 181, 0, 155, 4, 172]
abbrev dktX0_on_1 : List UInt8 := dkwX0_on_1 ++ []
def dkwX0_on_0 : List UInt8 := [42, 42, 182, 0, 136, 182, 1, 156, 154, 0, 17, 42, 8, 182, 0, 125, 155, 0, 7, 4, 167, 0, 4, 3]
abbrev dktX0_on_0 : List UInt8 := dkwX0_on_0 ++ dktX0_on_1
theorem dksX0_on_0 : cX0_on.data.toList.drop 0 = dktX0_on_0 := by decide +kernel
theorem dksX0_on_1 : cX0_on.data.toList.drop 24 = dktX0_on_1 := dk_seg dksX0_on_0 24 rfl rfl
theorem dX0_on_0 : decode cX0_on 0 = .ok (.aload_n 0, 1) := dk_42 (dk_at dksX0_on_0 0 rfl rfl)
theorem dX0_on_1 : decode cX0_on 1 = .ok (.aload_n 0, 1) := dk_42 (dk_at dksX0_on_0 1 rfl rfl)
theorem dX0_on_2 : decode cX0_on 2 = .ok (.invokevirtual 136, 3) := dk_182 0 136 (dk_at dksX0_on_0 2 rfl rfl)
theorem dX0_on_5 : decode cX0_on 5 = .ok (.invokevirtual 412, 3) := dk_182 1 156 (dk_at dksX0_on_0 5 rfl rfl)
theorem dX0_on_8 : decode cX0_on 8 = .ok (.ifCond .ne 17, 3) := dk_154 0 17 (dk_at dksX0_on_0 8 rfl rfl)
theorem dX0_on_11 : decode cX0_on 11 = .ok (.aload_n 0, 1) := dk_42 (dk_at dksX0_on_0 11 rfl rfl)
theorem dX0_on_12 : decode cX0_on 12 = .ok (.iconst 5, 1) := dk_8 (dk_at dksX0_on_0 12 rfl rfl)
theorem dX0_on_13 : decode cX0_on 13 = .ok (.invokevirtual 125, 3) := dk_182 0 125 (dk_at dksX0_on_0 13 rfl rfl)
theorem dX0_on_16 : decode cX0_on 16 = .ok (.ifCond .lt 7, 3) := dk_155 0 7 (dk_at dksX0_on_0 16 rfl rfl)
theorem dX0_on_19 : decode cX0_on 19 = .ok (.iconst 1, 1) := dk_4 (dk_at dksX0_on_0 19 rfl rfl)
theorem dX0_on_20 : decode cX0_on 20 = .ok (.goto 4, 3) := dk_167 0 4 (dk_at dksX0_on_0 20 rfl rfl)
theorem dX0_on_23 : decode cX0_on 23 = .ok (.iconst 0, 1) := dk_3 (dk_at dksX0_on_0 23 rfl rfl)
theorem dX0_on_24 : decode cX0_on 24 = .ok (.ireturn, 1) := dk_172 (dk_at dksX0_on_1 0 rfl rfl)
theorem dX0_on_25 : decode cX0_on 25 = .ok (.aload_n 0, 1) := dk_42 (dk_at dksX0_on_1 1 rfl rfl)
theorem dX0_on_26 : decode cX0_on 26 = .ok (.getfield 74, 3) := dk_180 0 74 (dk_at dksX0_on_1 2 rfl rfl)
theorem dX0_on_29 : decode cX0_on 29 = .ok (.aload_n 0, 1) := dk_42 (dk_at dksX0_on_1 5 rfl rfl)
theorem dX0_on_30 : decode cX0_on 30 = .ok (.getfield 78, 3) := dk_180 0 78 (dk_at dksX0_on_1 6 rfl rfl)
theorem dX0_on_33 : decode cX0_on 33 = .ok (.invokevirtual 294, 3) := dk_182 1 38 (dk_at dksX0_on_1 9 rfl rfl)
theorem dX0_on_36 : decode cX0_on 36 = .ok (.pop, 1) := dk_87 (dk_at dksX0_on_1 12 rfl rfl)
theorem dX0_on_37 : decode cX0_on 37 = .ok (.aload_n 0, 1) := dk_42 (dk_at dksX0_on_1 13 rfl rfl)
theorem dX0_on_38 : decode cX0_on 38 = .ok (.iconst 0, 1) := dk_3 (dk_at dksX0_on_1 14 rfl rfl)
theorem dX0_on_39 : decode cX0_on 39 = .ok (.putfield 155, 3) := dk_181 0 155 (dk_at dksX0_on_1 15 rfl rfl)
theorem dX0_on_42 : decode cX0_on 42 = .ok (.iconst 1, 1) := dk_4 (dk_at dksX0_on_1 18 rfl rfl)
theorem dX0_on_43 : decode cX0_on 43 = .ok (.ireturn, 1) := dk_172 (dk_at dksX0_on_1 19 rfl rfl)
abbrev cX0_comesOn : ByteArray := prog_1_method_71_code
def yX0_comesOn : MethodName := ⟨RX0, "comesOn", "(I)Z"⟩
def dkwX0_comesOn_12 : List UInt8 := [172]
abbrev dktX0_comesOn_12 : List UInt8 := dkwX0_comesOn_12 ++ []
def dkwX0_comesOn_11 : List UInt8 := [182, 1, 86, 158, 0, 7, 3, 167, 0, 5, 16, 99, 164, 0, 5, 3, 172, 132, 4, 1, 167, 255, 163, 4]
abbrev dktX0_comesOn_11 : List UInt8 := dkwX0_comesOn_11 ++ dktX0_comesOn_12
def dkwX0_comesOn_10 : List UInt8 := [42, 21, 5, 182, 1, 86, 16, 99, 163, 0, 29, 42, 21, 5, 4, 96, 182, 1, 86, 42, 21, 5]
abbrev dktX0_comesOn_10 : List UInt8 := dkwX0_comesOn_10 ++ dktX0_comesOn_11
def dkwX0_comesOn_9 : List UInt8 := [21, 5, 182, 1, 86, 79, 42, 180, 0, 78, 180, 1, 1, 21, 4, 42, 21, 5, 4, 96, 182, 1, 86, 79]
abbrev dktX0_comesOn_9 : List UInt8 := dkwX0_comesOn_9 ++ dktX0_comesOn_10
def dkwX0_comesOn_8 : List UInt8 := [182, 0, 181, 162, 0, 90, 28, 5, 21, 4, 104, 96, 54, 5, 42, 180, 0, 78, 180, 0, 254, 21, 4, 42]
abbrev dktX0_comesOn_8 : List UInt8 := dkwX0_comesOn_8 ++ dktX0_comesOn_9
def dkwX0_comesOn_7 : List UInt8 := [182, 1, 86, 21, 4, 120, 128, 181, 0, 225, 132, 4, 1, 167, 255, 207, 3, 54, 4, 21, 4, 42]
abbrev dktX0_comesOn_7 : List UInt8 := dkwX0_comesOn_7 ++ dktX0_comesOn_8
def dkwX0_comesOn_6 : List UInt8 := [182, 1, 86, 4, 164, 0, 5, 3, 172, 42, 180, 0, 78, 89, 180, 0, 225, 42, 6, 21, 4, 96]
abbrev dktX0_comesOn_6 : List UInt8 := dkwX0_comesOn_6 ++ dktX0_comesOn_7
def dkwX0_comesOn_5 : List UInt8 := [180, 0, 78, 3, 181, 0, 225, 3, 54, 4, 21, 4, 42, 182, 0, 183, 162, 0, 46, 42, 6, 21, 4, 96]
abbrev dktX0_comesOn_5 : List UInt8 := dkwX0_comesOn_5 ++ dktX0_comesOn_6
def dkwX0_comesOn_4 : List UInt8 := [181, 0, 211, 42, 180, 0, 78, 3, 181, 0, 228, 42, 180, 0, 78, 42, 5, 182, 1, 86, 181, 0, 214, 42]
abbrev dktX0_comesOn_4 : List UInt8 := dkwX0_comesOn_4 ++ dktX0_comesOn_5
def dkwX0_comesOn_3 : List UInt8 := [182, 0, 179, 184, 1, 95, 161, 0, 5, 3, 172, 42, 180, 0, 78, 42, 180, 0, 74, 182, 1, 38, 29]
abbrev dktX0_comesOn_3 : List UInt8 := dkwX0_comesOn_3 ++ dktX0_comesOn_4
def dkwX0_comesOn_2 : List UInt8 := [4, 100, 184, 1, 152, 160, 0, 26, 29, 17, 3, 231, 163, 0, 19, 42, 5, 182, 1, 86, 4, 42]
abbrev dktX0_comesOn_2 : List UInt8 := dkwX0_comesOn_2 ++ dktX0_comesOn_3
def dkwX0_comesOn_1 : List UInt8 := [5, 42, 182, 0, 181, 104, 96, 4, 96, 160, 0, 46, 42, 27, 4, 100, 182, 1, 86, 42, 180, 0, 35, 27]
abbrev dktX0_comesOn_1 : List UInt8 := dkwX0_comesOn_1 ++ dktX0_comesOn_2
def dkwX0_comesOn_0 : List UInt8 := [6, 42, 182, 0, 183, 96, 61, 42, 3, 182, 1, 86, 16, 8, 120, 42, 4, 182, 1, 86, 128, 62, 27, 28]
abbrev dktX0_comesOn_0 : List UInt8 := dkwX0_comesOn_0 ++ dktX0_comesOn_1
theorem dksX0_comesOn_0 : cX0_comesOn.data.toList.drop 0 = dktX0_comesOn_0 := by decide +kernel
theorem dksX0_comesOn_1 : cX0_comesOn.data.toList.drop 24 = dktX0_comesOn_1 := dk_seg dksX0_comesOn_0 24 rfl rfl
theorem dksX0_comesOn_2 : cX0_comesOn.data.toList.drop 48 = dktX0_comesOn_2 := dk_seg dksX0_comesOn_1 24 rfl rfl
theorem dksX0_comesOn_3 : cX0_comesOn.data.toList.drop 70 = dktX0_comesOn_3 := dk_seg dksX0_comesOn_2 22 rfl rfl
theorem dksX0_comesOn_4 : cX0_comesOn.data.toList.drop 93 = dktX0_comesOn_4 := dk_seg dksX0_comesOn_3 23 rfl rfl
theorem dksX0_comesOn_5 : cX0_comesOn.data.toList.drop 117 = dktX0_comesOn_5 := dk_seg dksX0_comesOn_4 24 rfl rfl
theorem dksX0_comesOn_6 : cX0_comesOn.data.toList.drop 141 = dktX0_comesOn_6 := dk_seg dksX0_comesOn_5 24 rfl rfl
theorem dksX0_comesOn_7 : cX0_comesOn.data.toList.drop 163 = dktX0_comesOn_7 := dk_seg dksX0_comesOn_6 22 rfl rfl
theorem dksX0_comesOn_8 : cX0_comesOn.data.toList.drop 185 = dktX0_comesOn_8 := dk_seg dksX0_comesOn_7 22 rfl rfl
theorem dksX0_comesOn_9 : cX0_comesOn.data.toList.drop 209 = dktX0_comesOn_9 := dk_seg dksX0_comesOn_8 24 rfl rfl
theorem dksX0_comesOn_10 : cX0_comesOn.data.toList.drop 233 = dktX0_comesOn_10 := dk_seg dksX0_comesOn_9 24 rfl rfl
theorem dksX0_comesOn_11 : cX0_comesOn.data.toList.drop 255 = dktX0_comesOn_11 := dk_seg dksX0_comesOn_10 22 rfl rfl
theorem dksX0_comesOn_12 : cX0_comesOn.data.toList.drop 279 = dktX0_comesOn_12 := dk_seg dksX0_comesOn_11 24 rfl rfl
theorem dX0_comesOn_0 : decode cX0_comesOn 0 = .ok (.iconst 3, 1) := dk_6 (dk_at dksX0_comesOn_0 0 rfl rfl)
theorem dX0_comesOn_1 : decode cX0_comesOn 1 = .ok (.aload_n 0, 1) := dk_42 (dk_at dksX0_comesOn_0 1 rfl rfl)
theorem dX0_comesOn_2 : decode cX0_comesOn 2 = .ok (.invokevirtual 183, 3) := dk_182 0 183 (dk_at dksX0_comesOn_0 2 rfl rfl)
theorem dX0_comesOn_5 : decode cX0_comesOn 5 = .ok (.iadd, 1) := dk_96 (dk_at dksX0_comesOn_0 5 rfl rfl)
theorem dX0_comesOn_6 : decode cX0_comesOn 6 = .ok (.istore_n 2, 1) := dk_61 (dk_at dksX0_comesOn_0 6 rfl rfl)
theorem dX0_comesOn_7 : decode cX0_comesOn 7 = .ok (.aload_n 0, 1) := dk_42 (dk_at dksX0_comesOn_0 7 rfl rfl)
theorem dX0_comesOn_8 : decode cX0_comesOn 8 = .ok (.iconst 0, 1) := dk_3 (dk_at dksX0_comesOn_0 8 rfl rfl)
theorem dX0_comesOn_9 : decode cX0_comesOn 9 = .ok (.invokevirtual 342, 3) := dk_182 1 86 (dk_at dksX0_comesOn_0 9 rfl rfl)
theorem dX0_comesOn_12 : decode cX0_comesOn 12 = .ok (.bipush 8, 2) := dk_16 8 (dk_at dksX0_comesOn_0 12 rfl rfl)
theorem dX0_comesOn_14 : decode cX0_comesOn 14 = .ok (.ishl, 1) := dk_120 (dk_at dksX0_comesOn_0 14 rfl rfl)
theorem dX0_comesOn_15 : decode cX0_comesOn 15 = .ok (.aload_n 0, 1) := dk_42 (dk_at dksX0_comesOn_0 15 rfl rfl)
theorem dX0_comesOn_16 : decode cX0_comesOn 16 = .ok (.iconst 1, 1) := dk_4 (dk_at dksX0_comesOn_0 16 rfl rfl)
theorem dX0_comesOn_17 : decode cX0_comesOn 17 = .ok (.invokevirtual 342, 3) := dk_182 1 86 (dk_at dksX0_comesOn_0 17 rfl rfl)
theorem dX0_comesOn_20 : decode cX0_comesOn 20 = .ok (.ior, 1) := dk_128 (dk_at dksX0_comesOn_0 20 rfl rfl)
theorem dX0_comesOn_21 : decode cX0_comesOn 21 = .ok (.istore_n 3, 1) := dk_62 (dk_at dksX0_comesOn_0 21 rfl rfl)
theorem dX0_comesOn_22 : decode cX0_comesOn 22 = .ok (.iload_n 1, 1) := dk_27 (dk_at dksX0_comesOn_0 22 rfl rfl)
theorem dX0_comesOn_23 : decode cX0_comesOn 23 = .ok (.iload_n 2, 1) := dk_28 (dk_at dksX0_comesOn_0 23 rfl rfl)
theorem dX0_comesOn_24 : decode cX0_comesOn 24 = .ok (.iconst 2, 1) := dk_5 (dk_at dksX0_comesOn_1 0 rfl rfl)
theorem dX0_comesOn_25 : decode cX0_comesOn 25 = .ok (.aload_n 0, 1) := dk_42 (dk_at dksX0_comesOn_1 1 rfl rfl)
theorem dX0_comesOn_26 : decode cX0_comesOn 26 = .ok (.invokevirtual 181, 3) := dk_182 0 181 (dk_at dksX0_comesOn_1 2 rfl rfl)
theorem dX0_comesOn_29 : decode cX0_comesOn 29 = .ok (.imul, 1) := dk_104 (dk_at dksX0_comesOn_1 5 rfl rfl)
theorem dX0_comesOn_30 : decode cX0_comesOn 30 = .ok (.iadd, 1) := dk_96 (dk_at dksX0_comesOn_1 6 rfl rfl)
theorem dX0_comesOn_31 : decode cX0_comesOn 31 = .ok (.iconst 1, 1) := dk_4 (dk_at dksX0_comesOn_1 7 rfl rfl)
theorem dX0_comesOn_32 : decode cX0_comesOn 32 = .ok (.iadd, 1) := dk_96 (dk_at dksX0_comesOn_1 8 rfl rfl)
theorem dX0_comesOn_33 : decode cX0_comesOn 33 = .ok (.if_icmp .ne 46, 3) := dk_160 0 46 (dk_at dksX0_comesOn_1 9 rfl rfl)
theorem dX0_comesOn_36 : decode cX0_comesOn 36 = .ok (.aload_n 0, 1) := dk_42 (dk_at dksX0_comesOn_1 12 rfl rfl)
theorem dX0_comesOn_37 : decode cX0_comesOn 37 = .ok (.iload_n 1, 1) := dk_27 (dk_at dksX0_comesOn_1 13 rfl rfl)
theorem dX0_comesOn_38 : decode cX0_comesOn 38 = .ok (.iconst 1, 1) := dk_4 (dk_at dksX0_comesOn_1 14 rfl rfl)
theorem dX0_comesOn_39 : decode cX0_comesOn 39 = .ok (.isub, 1) := dk_100 (dk_at dksX0_comesOn_1 15 rfl rfl)
theorem dX0_comesOn_40 : decode cX0_comesOn 40 = .ok (.invokevirtual 342, 3) := dk_182 1 86 (dk_at dksX0_comesOn_1 16 rfl rfl)
theorem dX0_comesOn_43 : decode cX0_comesOn 43 = .ok (.aload_n 0, 1) := dk_42 (dk_at dksX0_comesOn_1 19 rfl rfl)
theorem dX0_comesOn_44 : decode cX0_comesOn 44 = .ok (.getfield 35, 3) := dk_180 0 35 (dk_at dksX0_comesOn_1 20 rfl rfl)
theorem dX0_comesOn_47 : decode cX0_comesOn 47 = .ok (.iload_n 1, 1) := dk_27 (dk_at dksX0_comesOn_1 23 rfl rfl)
theorem dX0_comesOn_48 : decode cX0_comesOn 48 = .ok (.iconst 1, 1) := dk_4 (dk_at dksX0_comesOn_2 0 rfl rfl)
theorem dX0_comesOn_49 : decode cX0_comesOn 49 = .ok (.isub, 1) := dk_100 (dk_at dksX0_comesOn_2 1 rfl rfl)
theorem dX0_comesOn_50 : decode cX0_comesOn 50 = .ok (.invokestatic 408, 3) := dk_184 1 152 (dk_at dksX0_comesOn_2 2 rfl rfl)
theorem dX0_comesOn_53 : decode cX0_comesOn 53 = .ok (.if_icmp .ne 26, 3) := dk_160 0 26 (dk_at dksX0_comesOn_2 5 rfl rfl)
theorem dX0_comesOn_56 : decode cX0_comesOn 56 = .ok (.iload_n 3, 1) := dk_29 (dk_at dksX0_comesOn_2 8 rfl rfl)
theorem dX0_comesOn_57 : decode cX0_comesOn 57 = .ok (.sipush 999, 3) := dk_17 3 231 (dk_at dksX0_comesOn_2 9 rfl rfl)
theorem dX0_comesOn_60 : decode cX0_comesOn 60 = .ok (.if_icmp .gt 19, 3) := dk_163 0 19 (dk_at dksX0_comesOn_2 12 rfl rfl)
theorem dX0_comesOn_63 : decode cX0_comesOn 63 = .ok (.aload_n 0, 1) := dk_42 (dk_at dksX0_comesOn_2 15 rfl rfl)
theorem dX0_comesOn_64 : decode cX0_comesOn 64 = .ok (.iconst 2, 1) := dk_5 (dk_at dksX0_comesOn_2 16 rfl rfl)
theorem dX0_comesOn_65 : decode cX0_comesOn 65 = .ok (.invokevirtual 342, 3) := dk_182 1 86 (dk_at dksX0_comesOn_2 17 rfl rfl)
theorem dX0_comesOn_68 : decode cX0_comesOn 68 = .ok (.iconst 1, 1) := dk_4 (dk_at dksX0_comesOn_2 20 rfl rfl)
theorem dX0_comesOn_69 : decode cX0_comesOn 69 = .ok (.aload_n 0, 1) := dk_42 (dk_at dksX0_comesOn_2 21 rfl rfl)
theorem dX0_comesOn_70 : decode cX0_comesOn 70 = .ok (.invokevirtual 179, 3) := dk_182 0 179 (dk_at dksX0_comesOn_3 0 rfl rfl)
theorem dX0_comesOn_73 : decode cX0_comesOn 73 = .ok (.invokestatic 351, 3) := dk_184 1 95 (dk_at dksX0_comesOn_3 3 rfl rfl)
theorem dX0_comesOn_76 : decode cX0_comesOn 76 = .ok (.if_icmp .lt 5, 3) := dk_161 0 5 (dk_at dksX0_comesOn_3 6 rfl rfl)
theorem dX0_comesOn_79 : decode cX0_comesOn 79 = .ok (.iconst 0, 1) := dk_3 (dk_at dksX0_comesOn_3 9 rfl rfl)
theorem dX0_comesOn_80 : decode cX0_comesOn 80 = .ok (.ireturn, 1) := dk_172 (dk_at dksX0_comesOn_3 10 rfl rfl)
theorem dX0_comesOn_81 : decode cX0_comesOn 81 = .ok (.aload_n 0, 1) := dk_42 (dk_at dksX0_comesOn_3 11 rfl rfl)
theorem dX0_comesOn_82 : decode cX0_comesOn 82 = .ok (.getfield 78, 3) := dk_180 0 78 (dk_at dksX0_comesOn_3 12 rfl rfl)
theorem dX0_comesOn_85 : decode cX0_comesOn 85 = .ok (.aload_n 0, 1) := dk_42 (dk_at dksX0_comesOn_3 15 rfl rfl)
theorem dX0_comesOn_86 : decode cX0_comesOn 86 = .ok (.getfield 74, 3) := dk_180 0 74 (dk_at dksX0_comesOn_3 16 rfl rfl)
theorem dX0_comesOn_89 : decode cX0_comesOn 89 = .ok (.invokevirtual 294, 3) := dk_182 1 38 (dk_at dksX0_comesOn_3 19 rfl rfl)
theorem dX0_comesOn_92 : decode cX0_comesOn 92 = .ok (.iload_n 3, 1) := dk_29 (dk_at dksX0_comesOn_3 22 rfl rfl)
theorem dX0_comesOn_93 : decode cX0_comesOn 93 = .ok (.putfield 211, 3) := dk_181 0 211 (dk_at dksX0_comesOn_4 0 rfl rfl)
theorem dX0_comesOn_96 : decode cX0_comesOn 96 = .ok (.aload_n 0, 1) := dk_42 (dk_at dksX0_comesOn_4 3 rfl rfl)
theorem dX0_comesOn_97 : decode cX0_comesOn 97 = .ok (.getfield 78, 3) := dk_180 0 78 (dk_at dksX0_comesOn_4 4 rfl rfl)
theorem dX0_comesOn_100 : decode cX0_comesOn 100 = .ok (.iconst 0, 1) := dk_3 (dk_at dksX0_comesOn_4 7 rfl rfl)
theorem dX0_comesOn_101 : decode cX0_comesOn 101 = .ok (.putfield 228, 3) := dk_181 0 228 (dk_at dksX0_comesOn_4 8 rfl rfl)
theorem dX0_comesOn_104 : decode cX0_comesOn 104 = .ok (.aload_n 0, 1) := dk_42 (dk_at dksX0_comesOn_4 11 rfl rfl)
theorem dX0_comesOn_105 : decode cX0_comesOn 105 = .ok (.getfield 78, 3) := dk_180 0 78 (dk_at dksX0_comesOn_4 12 rfl rfl)
theorem dX0_comesOn_108 : decode cX0_comesOn 108 = .ok (.aload_n 0, 1) := dk_42 (dk_at dksX0_comesOn_4 15 rfl rfl)
theorem dX0_comesOn_109 : decode cX0_comesOn 109 = .ok (.iconst 2, 1) := dk_5 (dk_at dksX0_comesOn_4 16 rfl rfl)
theorem dX0_comesOn_110 : decode cX0_comesOn 110 = .ok (.invokevirtual 342, 3) := dk_182 1 86 (dk_at dksX0_comesOn_4 17 rfl rfl)
theorem dX0_comesOn_113 : decode cX0_comesOn 113 = .ok (.putfield 214, 3) := dk_181 0 214 (dk_at dksX0_comesOn_4 20 rfl rfl)
theorem dX0_comesOn_116 : decode cX0_comesOn 116 = .ok (.aload_n 0, 1) := dk_42 (dk_at dksX0_comesOn_4 23 rfl rfl)
theorem dX0_comesOn_117 : decode cX0_comesOn 117 = .ok (.getfield 78, 3) := dk_180 0 78 (dk_at dksX0_comesOn_5 0 rfl rfl)
theorem dX0_comesOn_120 : decode cX0_comesOn 120 = .ok (.iconst 0, 1) := dk_3 (dk_at dksX0_comesOn_5 3 rfl rfl)
theorem dX0_comesOn_121 : decode cX0_comesOn 121 = .ok (.putfield 225, 3) := dk_181 0 225 (dk_at dksX0_comesOn_5 4 rfl rfl)
theorem dX0_comesOn_124 : decode cX0_comesOn 124 = .ok (.iconst 0, 1) := dk_3 (dk_at dksX0_comesOn_5 7 rfl rfl)
theorem dX0_comesOn_125 : decode cX0_comesOn 125 = .ok (.istore 4, 2) := dk_54 4 (dk_at dksX0_comesOn_5 8 rfl rfl)
theorem dX0_comesOn_127 : decode cX0_comesOn 127 = .ok (.iload 4, 2) := dk_21 4 (dk_at dksX0_comesOn_5 10 rfl rfl)
theorem dX0_comesOn_129 : decode cX0_comesOn 129 = .ok (.aload_n 0, 1) := dk_42 (dk_at dksX0_comesOn_5 12 rfl rfl)
theorem dX0_comesOn_130 : decode cX0_comesOn 130 = .ok (.invokevirtual 183, 3) := dk_182 0 183 (dk_at dksX0_comesOn_5 13 rfl rfl)
theorem dX0_comesOn_133 : decode cX0_comesOn 133 = .ok (.if_icmp .ge 46, 3) := dk_162 0 46 (dk_at dksX0_comesOn_5 16 rfl rfl)
theorem dX0_comesOn_136 : decode cX0_comesOn 136 = .ok (.aload_n 0, 1) := dk_42 (dk_at dksX0_comesOn_5 19 rfl rfl)
theorem dX0_comesOn_137 : decode cX0_comesOn 137 = .ok (.iconst 3, 1) := dk_6 (dk_at dksX0_comesOn_5 20 rfl rfl)
theorem dX0_comesOn_138 : decode cX0_comesOn 138 = .ok (.iload 4, 2) := dk_21 4 (dk_at dksX0_comesOn_5 21 rfl rfl)
theorem dX0_comesOn_140 : decode cX0_comesOn 140 = .ok (.iadd, 1) := dk_96 (dk_at dksX0_comesOn_5 23 rfl rfl)
theorem dX0_comesOn_141 : decode cX0_comesOn 141 = .ok (.invokevirtual 342, 3) := dk_182 1 86 (dk_at dksX0_comesOn_6 0 rfl rfl)
theorem dX0_comesOn_144 : decode cX0_comesOn 144 = .ok (.iconst 1, 1) := dk_4 (dk_at dksX0_comesOn_6 3 rfl rfl)
theorem dX0_comesOn_145 : decode cX0_comesOn 145 = .ok (.if_icmp .le 5, 3) := dk_164 0 5 (dk_at dksX0_comesOn_6 4 rfl rfl)
theorem dX0_comesOn_148 : decode cX0_comesOn 148 = .ok (.iconst 0, 1) := dk_3 (dk_at dksX0_comesOn_6 7 rfl rfl)
theorem dX0_comesOn_149 : decode cX0_comesOn 149 = .ok (.ireturn, 1) := dk_172 (dk_at dksX0_comesOn_6 8 rfl rfl)
theorem dX0_comesOn_150 : decode cX0_comesOn 150 = .ok (.aload_n 0, 1) := dk_42 (dk_at dksX0_comesOn_6 9 rfl rfl)
theorem dX0_comesOn_151 : decode cX0_comesOn 151 = .ok (.getfield 78, 3) := dk_180 0 78 (dk_at dksX0_comesOn_6 10 rfl rfl)
theorem dX0_comesOn_154 : decode cX0_comesOn 154 = .ok (.dup, 1) := dk_89 (dk_at dksX0_comesOn_6 13 rfl rfl)
theorem dX0_comesOn_155 : decode cX0_comesOn 155 = .ok (.getfield 225, 3) := dk_180 0 225 (dk_at dksX0_comesOn_6 14 rfl rfl)
theorem dX0_comesOn_158 : decode cX0_comesOn 158 = .ok (.aload_n 0, 1) := dk_42 (dk_at dksX0_comesOn_6 17 rfl rfl)
theorem dX0_comesOn_159 : decode cX0_comesOn 159 = .ok (.iconst 3, 1) := dk_6 (dk_at dksX0_comesOn_6 18 rfl rfl)
theorem dX0_comesOn_160 : decode cX0_comesOn 160 = .ok (.iload 4, 2) := dk_21 4 (dk_at dksX0_comesOn_6 19 rfl rfl)
theorem dX0_comesOn_162 : decode cX0_comesOn 162 = .ok (.iadd, 1) := dk_96 (dk_at dksX0_comesOn_6 21 rfl rfl)
theorem dX0_comesOn_163 : decode cX0_comesOn 163 = .ok (.invokevirtual 342, 3) := dk_182 1 86 (dk_at dksX0_comesOn_7 0 rfl rfl)
theorem dX0_comesOn_166 : decode cX0_comesOn 166 = .ok (.iload 4, 2) := dk_21 4 (dk_at dksX0_comesOn_7 3 rfl rfl)
theorem dX0_comesOn_168 : decode cX0_comesOn 168 = .ok (.ishl, 1) := dk_120 (dk_at dksX0_comesOn_7 5 rfl rfl)
theorem dX0_comesOn_169 : decode cX0_comesOn 169 = .ok (.ior, 1) := dk_128 (dk_at dksX0_comesOn_7 6 rfl rfl)
theorem dX0_comesOn_170 : decode cX0_comesOn 170 = .ok (.putfield 225, 3) := dk_181 0 225 (dk_at dksX0_comesOn_7 7 rfl rfl)
theorem dX0_comesOn_173 : decode cX0_comesOn 173 = .ok (.iinc 4 1, 3) := dk_132 4 1 (dk_at dksX0_comesOn_7 10 rfl rfl)
theorem dX0_comesOn_176 : decode cX0_comesOn 176 = .ok (.goto (-49), 3) := dk_167 255 207 (dk_at dksX0_comesOn_7 13 rfl rfl)
theorem dX0_comesOn_179 : decode cX0_comesOn 179 = .ok (.iconst 0, 1) := dk_3 (dk_at dksX0_comesOn_7 16 rfl rfl)
theorem dX0_comesOn_180 : decode cX0_comesOn 180 = .ok (.istore 4, 2) := dk_54 4 (dk_at dksX0_comesOn_7 17 rfl rfl)
theorem dX0_comesOn_182 : decode cX0_comesOn 182 = .ok (.iload 4, 2) := dk_21 4 (dk_at dksX0_comesOn_7 19 rfl rfl)
theorem dX0_comesOn_184 : decode cX0_comesOn 184 = .ok (.aload_n 0, 1) := dk_42 (dk_at dksX0_comesOn_7 21 rfl rfl)
theorem dX0_comesOn_185 : decode cX0_comesOn 185 = .ok (.invokevirtual 181, 3) := dk_182 0 181 (dk_at dksX0_comesOn_8 0 rfl rfl)
theorem dX0_comesOn_188 : decode cX0_comesOn 188 = .ok (.if_icmp .ge 90, 3) := dk_162 0 90 (dk_at dksX0_comesOn_8 3 rfl rfl)
theorem dX0_comesOn_191 : decode cX0_comesOn 191 = .ok (.iload_n 2, 1) := dk_28 (dk_at dksX0_comesOn_8 6 rfl rfl)
theorem dX0_comesOn_192 : decode cX0_comesOn 192 = .ok (.iconst 2, 1) := dk_5 (dk_at dksX0_comesOn_8 7 rfl rfl)
theorem dX0_comesOn_193 : decode cX0_comesOn 193 = .ok (.iload 4, 2) := dk_21 4 (dk_at dksX0_comesOn_8 8 rfl rfl)
theorem dX0_comesOn_195 : decode cX0_comesOn 195 = .ok (.imul, 1) := dk_104 (dk_at dksX0_comesOn_8 10 rfl rfl)
theorem dX0_comesOn_196 : decode cX0_comesOn 196 = .ok (.iadd, 1) := dk_96 (dk_at dksX0_comesOn_8 11 rfl rfl)
theorem dX0_comesOn_197 : decode cX0_comesOn 197 = .ok (.istore 5, 2) := dk_54 5 (dk_at dksX0_comesOn_8 12 rfl rfl)
theorem dX0_comesOn_199 : decode cX0_comesOn 199 = .ok (.aload_n 0, 1) := dk_42 (dk_at dksX0_comesOn_8 14 rfl rfl)
theorem dX0_comesOn_200 : decode cX0_comesOn 200 = .ok (.getfield 78, 3) := dk_180 0 78 (dk_at dksX0_comesOn_8 15 rfl rfl)
theorem dX0_comesOn_203 : decode cX0_comesOn 203 = .ok (.getfield 254, 3) := dk_180 0 254 (dk_at dksX0_comesOn_8 18 rfl rfl)
theorem dX0_comesOn_206 : decode cX0_comesOn 206 = .ok (.iload 4, 2) := dk_21 4 (dk_at dksX0_comesOn_8 21 rfl rfl)
theorem dX0_comesOn_208 : decode cX0_comesOn 208 = .ok (.aload_n 0, 1) := dk_42 (dk_at dksX0_comesOn_8 23 rfl rfl)
theorem dX0_comesOn_209 : decode cX0_comesOn 209 = .ok (.iload 5, 2) := dk_21 5 (dk_at dksX0_comesOn_9 0 rfl rfl)
theorem dX0_comesOn_211 : decode cX0_comesOn 211 = .ok (.invokevirtual 342, 3) := dk_182 1 86 (dk_at dksX0_comesOn_9 2 rfl rfl)
theorem dX0_comesOn_214 : decode cX0_comesOn 214 = .ok (.iastore, 1) := dk_79 (dk_at dksX0_comesOn_9 5 rfl rfl)
theorem dX0_comesOn_215 : decode cX0_comesOn 215 = .ok (.aload_n 0, 1) := dk_42 (dk_at dksX0_comesOn_9 6 rfl rfl)
theorem dX0_comesOn_216 : decode cX0_comesOn 216 = .ok (.getfield 78, 3) := dk_180 0 78 (dk_at dksX0_comesOn_9 7 rfl rfl)
theorem dX0_comesOn_219 : decode cX0_comesOn 219 = .ok (.getfield 257, 3) := dk_180 1 1 (dk_at dksX0_comesOn_9 10 rfl rfl)
theorem dX0_comesOn_222 : decode cX0_comesOn 222 = .ok (.iload 4, 2) := dk_21 4 (dk_at dksX0_comesOn_9 13 rfl rfl)
theorem dX0_comesOn_224 : decode cX0_comesOn 224 = .ok (.aload_n 0, 1) := dk_42 (dk_at dksX0_comesOn_9 15 rfl rfl)
theorem dX0_comesOn_225 : decode cX0_comesOn 225 = .ok (.iload 5, 2) := dk_21 5 (dk_at dksX0_comesOn_9 16 rfl rfl)
theorem dX0_comesOn_227 : decode cX0_comesOn 227 = .ok (.iconst 1, 1) := dk_4 (dk_at dksX0_comesOn_9 18 rfl rfl)
theorem dX0_comesOn_228 : decode cX0_comesOn 228 = .ok (.iadd, 1) := dk_96 (dk_at dksX0_comesOn_9 19 rfl rfl)
theorem dX0_comesOn_229 : decode cX0_comesOn 229 = .ok (.invokevirtual 342, 3) := dk_182 1 86 (dk_at dksX0_comesOn_9 20 rfl rfl)
theorem dX0_comesOn_232 : decode cX0_comesOn 232 = .ok (.iastore, 1) := dk_79 (dk_at dksX0_comesOn_9 23 rfl rfl)
theorem dX0_comesOn_233 : decode cX0_comesOn 233 = .ok (.aload_n 0, 1) := dk_42 (dk_at dksX0_comesOn_10 0 rfl rfl)
theorem dX0_comesOn_234 : decode cX0_comesOn 234 = .ok (.iload 5, 2) := dk_21 5 (dk_at dksX0_comesOn_10 1 rfl rfl)
theorem dX0_comesOn_236 : decode cX0_comesOn 236 = .ok (.invokevirtual 342, 3) := dk_182 1 86 (dk_at dksX0_comesOn_10 3 rfl rfl)
theorem dX0_comesOn_239 : decode cX0_comesOn 239 = .ok (.bipush 99, 2) := dk_16 99 (dk_at dksX0_comesOn_10 6 rfl rfl)
theorem dX0_comesOn_241 : decode cX0_comesOn 241 = .ok (.if_icmp .gt 29, 3) := dk_163 0 29 (dk_at dksX0_comesOn_10 8 rfl rfl)
theorem dX0_comesOn_244 : decode cX0_comesOn 244 = .ok (.aload_n 0, 1) := dk_42 (dk_at dksX0_comesOn_10 11 rfl rfl)
theorem dX0_comesOn_245 : decode cX0_comesOn 245 = .ok (.iload 5, 2) := dk_21 5 (dk_at dksX0_comesOn_10 12 rfl rfl)
theorem dX0_comesOn_247 : decode cX0_comesOn 247 = .ok (.iconst 1, 1) := dk_4 (dk_at dksX0_comesOn_10 14 rfl rfl)
theorem dX0_comesOn_248 : decode cX0_comesOn 248 = .ok (.iadd, 1) := dk_96 (dk_at dksX0_comesOn_10 15 rfl rfl)
theorem dX0_comesOn_249 : decode cX0_comesOn 249 = .ok (.invokevirtual 342, 3) := dk_182 1 86 (dk_at dksX0_comesOn_10 16 rfl rfl)
theorem dX0_comesOn_252 : decode cX0_comesOn 252 = .ok (.aload_n 0, 1) := dk_42 (dk_at dksX0_comesOn_10 19 rfl rfl)
theorem dX0_comesOn_253 : decode cX0_comesOn 253 = .ok (.iload 5, 2) := dk_21 5 (dk_at dksX0_comesOn_10 20 rfl rfl)
theorem dX0_comesOn_255 : decode cX0_comesOn 255 = .ok (.invokevirtual 342, 3) := dk_182 1 86 (dk_at dksX0_comesOn_11 0 rfl rfl)
theorem dX0_comesOn_258 : decode cX0_comesOn 258 = .ok (.ifCond .le 7, 3) := dk_158 0 7 (dk_at dksX0_comesOn_11 3 rfl rfl)
theorem dX0_comesOn_261 : decode cX0_comesOn 261 = .ok (.iconst 0, 1) := dk_3 (dk_at dksX0_comesOn_11 6 rfl rfl)
theorem dX0_comesOn_262 : decode cX0_comesOn 262 = .ok (.goto 5, 3) := dk_167 0 5 (dk_at dksX0_comesOn_11 7 rfl rfl)
theorem dX0_comesOn_265 : decode cX0_comesOn 265 = .ok (.bipush 99, 2) := dk_16 99 (dk_at dksX0_comesOn_11 10 rfl rfl)
theorem dX0_comesOn_267 : decode cX0_comesOn 267 = .ok (.if_icmp .le 5, 3) := dk_164 0 5 (dk_at dksX0_comesOn_11 12 rfl rfl)
theorem dX0_comesOn_270 : decode cX0_comesOn 270 = .ok (.iconst 0, 1) := dk_3 (dk_at dksX0_comesOn_11 15 rfl rfl)
theorem dX0_comesOn_271 : decode cX0_comesOn 271 = .ok (.ireturn, 1) := dk_172 (dk_at dksX0_comesOn_11 16 rfl rfl)
theorem dX0_comesOn_272 : decode cX0_comesOn 272 = .ok (.iinc 4 1, 3) := dk_132 4 1 (dk_at dksX0_comesOn_11 17 rfl rfl)
theorem dX0_comesOn_275 : decode cX0_comesOn 275 = .ok (.goto (-93), 3) := dk_167 255 163 (dk_at dksX0_comesOn_11 20 rfl rfl)
theorem dX0_comesOn_278 : decode cX0_comesOn 278 = .ok (.iconst 1, 1) := dk_4 (dk_at dksX0_comesOn_11 23 rfl rfl)
theorem dX0_comesOn_279 : decode cX0_comesOn 279 = .ok (.ireturn, 1) := dk_172 (dk_at dksX0_comesOn_12 0 rfl rfl)
abbrev cX0_status : ByteArray := prog_1_method_73_code
def yX0_status : MethodName := ⟨RX0, "status", "(I)I"⟩
def dkwX0_status_0 : List UInt8 := [27, 3, 8, 184, 0, 231, 153, 0, 12, 42, 180, 0, 62, 27, 46, 167, 0, 4, 2, 172]
abbrev dktX0_status_0 : List UInt8 := dkwX0_status_0 ++ []
theorem dksX0_status_0 : cX0_status.data.toList.drop 0 = dktX0_status_0 := by decide +kernel
theorem dX0_status_0 : decode cX0_status 0 = .ok (.iload_n 1, 1) := dk_27 (dk_at dksX0_status_0 0 rfl rfl)
theorem dX0_status_1 : decode cX0_status 1 = .ok (.iconst 0, 1) := dk_3 (dk_at dksX0_status_0 1 rfl rfl)
theorem dX0_status_2 : decode cX0_status 2 = .ok (.iconst 5, 1) := dk_8 (dk_at dksX0_status_0 2 rfl rfl)
theorem dX0_status_3 : decode cX0_status 3 = .ok (.invokestatic 231, 3) := dk_184 0 231 (dk_at dksX0_status_0 3 rfl rfl)
theorem dX0_status_6 : decode cX0_status 6 = .ok (.ifCond .eq 12, 3) := dk_153 0 12 (dk_at dksX0_status_0 6 rfl rfl)
theorem dX0_status_9 : decode cX0_status 9 = .ok (.aload_n 0, 1) := dk_42 (dk_at dksX0_status_0 9 rfl rfl)
theorem dX0_status_10 : decode cX0_status 10 = .ok (.getfield 62, 3) := dk_180 0 62 (dk_at dksX0_status_0 10 rfl rfl)
theorem dX0_status_13 : decode cX0_status 13 = .ok (.iload_n 1, 1) := dk_27 (dk_at dksX0_status_0 13 rfl rfl)
theorem dX0_status_14 : decode cX0_status 14 = .ok (.iaload, 1) := dk_46 (dk_at dksX0_status_0 14 rfl rfl)
theorem dX0_status_15 : decode cX0_status 15 = .ok (.goto 4, 3) := dk_167 0 4 (dk_at dksX0_status_0 15 rfl rfl)
theorem dX0_status_18 : decode cX0_status 18 = .ok (.iconst (-1), 1) := dk_2 (dk_at dksX0_status_0 18 rfl rfl)
theorem dX0_status_19 : decode cX0_status 19 = .ok (.ireturn, 1) := dk_172 (dk_at dksX0_status_0 19 rfl rfl)
theorem q167 : (Jvm.Cond.initialized "FirstSnuffer") ∈ lw_all := lw_g (lw_at lw_m1 1 rfl) rfl
theorem q209 : (Jvm.Cond.instantiable "FirstSnuffer" (28 : Nat)) ∈ lw_all := lw_g (lw_at lw_m1 43 rfl) rfl
theorem q211 : (Jvm.Cond.instanceMethod ({ cls := "FirstSnuffer", name := "<init>", desc := "()V" } : Jvm.MethodName)) ∈ lw_all := lw_g (lw_at lw_m1 45 rfl) rfl
theorem q212 : (Jvm.Cond.code ({ cls := "FirstSnuffer", name := "<init>", desc := "()V" } : Jvm.MethodName) prog_1_method_7_code (2 : Nat) (Option.none : Option Jvm.ClassFile.FieldType)) ∈ lw_all := lw_g (lw_at lw_m1 46 rfl) rfl
theorem q213 : (Jvm.Cond.methodLink "FirstSnuffer" (22 : Nat) ({ cls := "java/lang/Object", name := "<init>", desc := "()V" } : Jvm.MethodName)) ∈ lw_all := lw_g (lw_at lw_m1 47 rfl) rfl
theorem q216 : (Jvm.Cond.classLink "FirstSnuffer" (28 : Nat) "FirstSnuffer$Household") ∈ lw_all := lw_g (lw_at lw_m1 50 rfl) rfl
theorem q218 : (Jvm.Cond.methodLinkNest "FirstSnuffer" (30 : Nat) ({ cls := "FirstSnuffer$Household", name := "<init>", desc := "()V" } : Jvm.MethodName) "FirstSnuffer") ∈ lw_tbl := lw_at lw_m1 52 rfl
theorem q250 : (Jvm.Cond.fieldLinkNest "FirstSnuffer" (161 : Nat) "FirstSnuffer$Household" "statements" "I" "FirstSnuffer") ∈ lw_tbl := lw_at lw_m1 84 rfl
theorem q255 : (Jvm.Cond.fieldLinkNest "FirstSnuffer" (336 : Nat) "FirstSnuffer$Household" "draught" "I" "FirstSnuffer") ∈ lw_tbl := lw_at lw_m1 89 rfl
theorem q257 : (Jvm.Cond.fieldLinkNest "FirstSnuffer" (164 : Nat) "FirstSnuffer$Household" "halls" "Ljava/util/List;" "FirstSnuffer") ∈ lw_tbl := lw_at lw_m1 91 rfl
theorem q261 : (Jvm.Cond.fieldLinkNest "FirstSnuffer" (194 : Nat) "FirstSnuffer$Household" "doors" "Ljava/util/List;" "FirstSnuffer") ∈ lw_tbl := lw_at lw_m1 95 rfl
theorem q263 : (Jvm.Cond.fieldLinkNest "FirstSnuffer" (173 : Nat) "FirstSnuffer$Household" "things" "Ljava/util/List;" "FirstSnuffer") ∈ lw_tbl := lw_at lw_m1 97 rfl
theorem q266 : (Jvm.Cond.fieldLinkNest "FirstSnuffer" (176 : Nat) "FirstSnuffer$Household" "ties" "Ljava/util/List;" "FirstSnuffer") ∈ lw_tbl := lw_at lw_m1 100 rfl
theorem q291 : (Jvm.Cond.classLink "FirstSnuffer" (43 : Nat) "FirstSnuffer$Reader") ∈ lw_all := lw_g (lw_at lw_m1 125 rfl) rfl
theorem q293 : (Jvm.Cond.methodLinkNest "FirstSnuffer" (45 : Nat) ({ cls := "FirstSnuffer$Reader", name := "<init>", desc := "(LFirstSnuffer;)V" } : Jvm.MethodName) "FirstSnuffer") ∈ lw_tbl := lw_at lw_m1 127 rfl
theorem q349 : (Jvm.Cond.fieldLinkNest "FirstSnuffer" (146 : Nat) "FirstSnuffer$Fault" "kind" "I" "FirstSnuffer") ∈ lw_tbl := lw_at lw_m1 183 rfl
theorem q351 : (Jvm.Cond.fieldLinkNest "FirstSnuffer" (149 : Nat) "FirstSnuffer$Fault" "place" "I" "FirstSnuffer") ∈ lw_tbl := lw_at lw_m1 185 rfl
theorem q395 : (Jvm.Cond.classLink "FirstSnuffer" (52 : Nat) "FirstSnuffer$Moment") ∈ lw_all := lw_g (lw_at lw_m1 229 rfl) rfl
theorem q397 : (Jvm.Cond.methodLinkNest "FirstSnuffer" (54 : Nat) ({ cls := "FirstSnuffer$Moment", name := "<init>", desc := "()V" } : Jvm.MethodName) "FirstSnuffer") ∈ lw_tbl := lw_at lw_m1 231 rfl
theorem q404 : (Jvm.Cond.fieldLinkNest "FirstSnuffer" (388 : Nat) "FirstSnuffer$Moment" "of" "[J" "FirstSnuffer") ∈ lw_tbl := lw_at lw_m1 238 rfl
theorem q409 : (Jvm.Cond.classLink "FirstSnuffer" (66 : Nat) "[[I") ∈ lw_all := lw_g (lw_at lw_m2 3 rfl) rfl
theorem q411 : (Jvm.Cond.classLink "FirstSnuffer" (71 : Nat) "FirstSnuffer$State") ∈ lw_all := lw_g (lw_at lw_m2 5 rfl) rfl
theorem q413 : (Jvm.Cond.methodLinkNest "FirstSnuffer" (73 : Nat) ({ cls := "FirstSnuffer$State", name := "<init>", desc := "(LFirstSnuffer;)V" } : Jvm.MethodName) "FirstSnuffer") ∈ lw_tbl := lw_at lw_m2 7 rfl
theorem q419 : (Jvm.Cond.fieldLinkNest "FirstSnuffer" (211 : Nat) "FirstSnuffer$State" "hour" "I" "FirstSnuffer") ∈ lw_tbl := lw_at lw_m2 13 rfl
theorem q421 : (Jvm.Cond.fieldLinkNest "FirstSnuffer" (228 : Nat) "FirstSnuffer$State" "keeps" "I" "FirstSnuffer") ∈ lw_tbl := lw_at lw_m2 15 rfl
theorem q423 : (Jvm.Cond.fieldLinkNest "FirstSnuffer" (214 : Nat) "FirstSnuffer$State" "at" "I" "FirstSnuffer") ∈ lw_tbl := lw_at lw_m2 17 rfl
theorem q425 : (Jvm.Cond.fieldLinkNest "FirstSnuffer" (225 : Nat) "FirstSnuffer$State" "tied" "I" "FirstSnuffer") ∈ lw_tbl := lw_at lw_m2 19 rfl
theorem q427 : (Jvm.Cond.fieldLinkNest "FirstSnuffer" (254 : Nat) "FirstSnuffer$State" "strength" "[I" "FirstSnuffer") ∈ lw_tbl := lw_at lw_m2 21 rfl
theorem q430 : (Jvm.Cond.fieldLinkNest "FirstSnuffer" (257 : Nat) "FirstSnuffer$State" "smell" "[I" "FirstSnuffer") ∈ lw_tbl := lw_at lw_m2 24 rfl
theorem q432 : (Jvm.Cond.fieldLinkNest "FirstSnuffer" (345 : Nat) "FirstSnuffer$State" "hot" "[I" "FirstSnuffer") ∈ lw_tbl := lw_at lw_m2 26 rfl
theorem q434 : (Jvm.Cond.fieldLinkNest "FirstSnuffer" (289 : Nat) "FirstSnuffer$State" "rows" "[[I" "FirstSnuffer") ∈ lw_tbl := lw_at lw_m2 28 rfl
theorem q458 : (Jvm.Cond.methodLink "FirstSnuffer" (81 : Nat) ({ cls := "FirstSnuffer", name := "reckonsWays", desc := "()V" } : Jvm.MethodName)) ∈ lw_all := lw_g (lw_at lw_m2 52 rfl) rfl
theorem q459 : (Jvm.Cond.privateMethod ({ cls := "FirstSnuffer", name := "reckonsWays", desc := "()V" } : Jvm.MethodName)) ∈ lw_tbl := lw_at lw_m2 53 rfl
theorem q460 : (Jvm.Cond.instanceMethod ({ cls := "FirstSnuffer", name := "reckonsWays", desc := "()V" } : Jvm.MethodName)) ∈ lw_all := lw_g (lw_at lw_m2 54 rfl) rfl
theorem q461 : (Jvm.Cond.code ({ cls := "FirstSnuffer", name := "reckonsWays", desc := "()V" } : Jvm.MethodName) prog_1_method_24_code (4 : Nat) (Option.none : Option Jvm.ClassFile.FieldType)) ∈ lw_all := lw_g (lw_at lw_m2 55 rfl) rfl
theorem q462 : (Jvm.Cond.constant "FirstSnuffer" (193 : Nat) (100000000 : Int32)) ∈ lw_all := lw_g (lw_at lw_m2 56 rfl) rfl
theorem q463 : (Jvm.Cond.interfaceEntry "FirstSnuffer" (168 : Nat)) ∈ lw_tbl := lw_at lw_m2 57 rfl
theorem q464 : (Jvm.Cond.methodLink "FirstSnuffer" (168 : Nat) ({ cls := "java/util/List", name := "size", desc := "()I" } : Jvm.MethodName)) ∈ lw_all := lw_g (lw_at lw_m2 58 rfl) rfl
theorem q473 : (Jvm.Cond.interfaceEntry "FirstSnuffer" (185 : Nat)) ∈ lw_tbl := lw_at lw_m2 67 rfl
theorem q474 : (Jvm.Cond.methodLink "FirstSnuffer" (185 : Nat) ({ cls := "java/util/List", name := "get", desc := "(I)Ljava/lang/Object;" } : Jvm.MethodName)) ∈ lw_all := lw_g (lw_at lw_m2 68 rfl) rfl
theorem q492 : (Jvm.Cond.classLink "FirstSnuffer" (197 : Nat) "FirstSnuffer$Door") ∈ lw_all := lw_g (lw_at lw_m2 86 rfl) rfl
theorem q493 : (Jvm.Cond.methodLink "FirstSnuffer" (208 : Nat) ({ cls := "java/lang/Math", name := "min", desc := "(II)I" } : Jvm.MethodName)) ∈ lw_all := lw_g (lw_at lw_m2 87 rfl) rfl
theorem q496 : (Jvm.Cond.classLink "FirstSnuffer" (106 : Nat) "[[[I") ∈ lw_all := lw_g (lw_at lw_m2 90 rfl) rfl
theorem q500 : (Jvm.Cond.fieldLink "FirstSnuffer" (31 : Nat) "FirstSnuffer" "household" "LFirstSnuffer$Household;") ∈ lw_all := lw_g (lw_at lw_m2 94 rfl) rfl
theorem q502 : (Jvm.Cond.fieldLink "FirstSnuffer" (35 : Nat) "FirstSnuffer" "tape" "[B") ∈ lw_all := lw_g (lw_at lw_m2 96 rfl) rfl
theorem q503 : (Jvm.Cond.fieldLink "FirstSnuffer" (122 : Nat) "FirstSnuffer" "taped" "I") ∈ lw_all := lw_g (lw_at lw_m2 97 rfl) rfl
theorem q504 : (Jvm.Cond.fieldLink "FirstSnuffer" (133 : Nat) "FirstSnuffer" "faultKind" "I") ∈ lw_all := lw_g (lw_at lw_m2 98 rfl) rfl
theorem q505 : (Jvm.Cond.fieldLink "FirstSnuffer" (39 : Nat) "FirstSnuffer" "faultPlace" "I") ∈ lw_all := lw_g (lw_at lw_m2 99 rfl) rfl
theorem q506 : (Jvm.Cond.fieldLink "FirstSnuffer" (48 : Nat) "FirstSnuffer" "reader" "LFirstSnuffer$Reader;") ∈ lw_all := lw_g (lw_at lw_m2 100 rfl) rfl
theorem q508 : (Jvm.Cond.fieldLink "FirstSnuffer" (55 : Nat) "FirstSnuffer" "moment" "LFirstSnuffer$Moment;") ∈ lw_all := lw_g (lw_at lw_m2 102 rfl) rfl
theorem q509 : (Jvm.Cond.fieldLink "FirstSnuffer" (59 : Nat) "FirstSnuffer" "asked" "LFirstSnuffer$Moment;") ∈ lw_all := lw_g (lw_at lw_m2 103 rfl) rfl
theorem q510 : (Jvm.Cond.fieldLink "FirstSnuffer" (62 : Nat) "FirstSnuffer" "refused" "[I") ∈ lw_all := lw_g (lw_at lw_m2 104 rfl) rfl
theorem q511 : (Jvm.Cond.fieldLink "FirstSnuffer" (68 : Nat) "FirstSnuffer" "far" "[[I") ∈ lw_all := lw_g (lw_at lw_m2 105 rfl) rfl
theorem q512 : (Jvm.Cond.fieldLink "FirstSnuffer" (74 : Nat) "FirstSnuffer" "now" "LFirstSnuffer$State;") ∈ lw_all := lw_g (lw_at lw_m2 106 rfl) rfl
theorem q513 : (Jvm.Cond.fieldLink "FirstSnuffer" (78 : Nat) "FirstSnuffer" "tried" "LFirstSnuffer$State;") ∈ lw_all := lw_g (lw_at lw_m2 107 rfl) rfl
theorem q514 : (Jvm.Cond.fieldLink "FirstSnuffer" (84 : Nat) "FirstSnuffer" "order" "[I") ∈ lw_all := lw_g (lw_at lw_m2 108 rfl) rfl
theorem q515 : (Jvm.Cond.fieldLink "FirstSnuffer" (87 : Nat) "FirstSnuffer" "bestOrder" "[I") ∈ lw_all := lw_g (lw_at lw_m2 109 rfl) rfl
theorem q516 : (Jvm.Cond.fieldLink "FirstSnuffer" (316 : Nat) "FirstSnuffer" "fewestHours" "I") ∈ lw_all := lw_g (lw_at lw_m2 110 rfl) rfl
theorem q517 : (Jvm.Cond.fieldLink "FirstSnuffer" (90 : Nat) "FirstSnuffer" "isUsed" "[Z") ∈ lw_all := lw_g (lw_at lw_m2 111 rfl) rfl
theorem q518 : (Jvm.Cond.fieldLink "FirstSnuffer" (94 : Nat) "FirstSnuffer" "reachedBy" "[I") ∈ lw_all := lw_g (lw_at lw_m2 112 rfl) rfl
theorem q519 : (Jvm.Cond.fieldLink "FirstSnuffer" (97 : Nat) "FirstSnuffer" "rowHours" "[I") ∈ lw_all := lw_g (lw_at lw_m2 113 rfl) rfl
theorem q520 : (Jvm.Cond.fieldLink "FirstSnuffer" (100 : Nat) "FirstSnuffer" "rowThing" "[I") ∈ lw_all := lw_g (lw_at lw_m2 114 rfl) rfl
theorem q521 : (Jvm.Cond.fieldLink "FirstSnuffer" (103 : Nat) "FirstSnuffer" "rowStrength" "[I") ∈ lw_all := lw_g (lw_at lw_m2 115 rfl) rfl
theorem q522 : (Jvm.Cond.fieldLink "FirstSnuffer" (158 : Nat) "FirstSnuffer" "rows" "I") ∈ lw_all := lw_g (lw_at lw_m2 116 rfl) rfl
theorem q523 : (Jvm.Cond.fieldLink "FirstSnuffer" (108 : Nat) "FirstSnuffer" "strengthBy" "[[[I") ∈ lw_all := lw_g (lw_at lw_m2 117 rfl) rfl
theorem q524 : (Jvm.Cond.fieldLink "FirstSnuffer" (111 : Nat) "FirstSnuffer" "kept" "[LFirstSnuffer$State;") ∈ lw_all := lw_g (lw_at lw_m2 118 rfl) rfl
theorem q525 : (Jvm.Cond.fieldLink "FirstSnuffer" (155 : Nat) "FirstSnuffer" "undos" "I") ∈ lw_all := lw_g (lw_at lw_m2 119 rfl) rfl
theorem q526 : (Jvm.Cond.fieldLink "FirstSnuffer" (115 : Nat) "FirstSnuffer" "seeds" "J") ∈ lw_all := lw_g (lw_at lw_m2 120 rfl) rfl
theorem q527 : (Jvm.Cond.fieldLink "FirstSnuffer" (377 : Nat) "FirstSnuffer" "askedThing" "I") ∈ lw_all := lw_g (lw_at lw_m2 121 rfl) rfl
theorem q528 : (Jvm.Cond.fieldLink "FirstSnuffer" (119 : Nat) "FirstSnuffer" "out" "[B") ∈ lw_all := lw_g (lw_at lw_m2 122 rfl) rfl
theorem q529 : (Jvm.Cond.fieldLink "FirstSnuffer" (402 : Nat) "FirstSnuffer" "outs" "I") ∈ lw_all := lw_g (lw_at lw_m2 123 rfl) rfl
theorem q530 : (Jvm.Cond.lays "FirstSnuffer" "FirstSnuffer" "household" "LFirstSnuffer$Household;") ∈ lw_all := lw_g (lw_at lw_m2 124 rfl) rfl
theorem q531 : (Jvm.Cond.soleField "FirstSnuffer" "household") ∈ lw_all := lw_g (lw_at lw_m2 125 rfl) rfl
theorem q532 : (Jvm.Cond.laysFinal "FirstSnuffer" "FirstSnuffer" "tape" "[B") ∈ lw_all := lw_g (lw_at lw_m2 126 rfl) rfl
theorem q533 : (Jvm.Cond.soleField "FirstSnuffer" "tape") ∈ lw_all := lw_g (lw_at lw_m2 127 rfl) rfl
theorem q534 : (Jvm.Cond.lays "FirstSnuffer" "FirstSnuffer" "taped" "I") ∈ lw_all := lw_g (lw_at lw_m2 128 rfl) rfl
theorem q535 : (Jvm.Cond.soleField "FirstSnuffer" "taped") ∈ lw_all := lw_g (lw_at lw_m2 129 rfl) rfl
theorem q536 : (Jvm.Cond.lays "FirstSnuffer" "FirstSnuffer" "faultKind" "I") ∈ lw_all := lw_g (lw_at lw_m2 130 rfl) rfl
theorem q537 : (Jvm.Cond.soleField "FirstSnuffer" "faultKind") ∈ lw_all := lw_g (lw_at lw_m2 131 rfl) rfl
theorem q538 : (Jvm.Cond.lays "FirstSnuffer" "FirstSnuffer" "faultPlace" "I") ∈ lw_all := lw_g (lw_at lw_m2 132 rfl) rfl
theorem q539 : (Jvm.Cond.soleField "FirstSnuffer" "faultPlace") ∈ lw_all := lw_g (lw_at lw_m2 133 rfl) rfl
theorem q540 : (Jvm.Cond.laysFinal "FirstSnuffer" "FirstSnuffer" "reader" "LFirstSnuffer$Reader;") ∈ lw_all := lw_g (lw_at lw_m2 134 rfl) rfl
theorem q541 : (Jvm.Cond.soleField "FirstSnuffer" "reader") ∈ lw_all := lw_g (lw_at lw_m2 135 rfl) rfl
theorem q542 : (Jvm.Cond.laysFinal "FirstSnuffer" "FirstSnuffer" "moment" "LFirstSnuffer$Moment;") ∈ lw_all := lw_g (lw_at lw_m2 136 rfl) rfl
theorem q543 : (Jvm.Cond.soleField "FirstSnuffer" "moment") ∈ lw_all := lw_g (lw_at lw_m2 137 rfl) rfl
theorem q544 : (Jvm.Cond.laysFinal "FirstSnuffer" "FirstSnuffer" "asked" "LFirstSnuffer$Moment;") ∈ lw_all := lw_g (lw_at lw_m2 138 rfl) rfl
theorem q545 : (Jvm.Cond.soleField "FirstSnuffer" "asked") ∈ lw_all := lw_g (lw_at lw_m2 139 rfl) rfl
theorem q546 : (Jvm.Cond.laysFinal "FirstSnuffer" "FirstSnuffer" "refused" "[I") ∈ lw_all := lw_g (lw_at lw_m2 140 rfl) rfl
theorem q547 : (Jvm.Cond.soleField "FirstSnuffer" "refused") ∈ lw_all := lw_g (lw_at lw_m2 141 rfl) rfl
theorem q548 : (Jvm.Cond.laysFinal "FirstSnuffer" "FirstSnuffer" "far" "[[I") ∈ lw_all := lw_g (lw_at lw_m2 142 rfl) rfl
theorem q549 : (Jvm.Cond.soleField "FirstSnuffer" "far") ∈ lw_all := lw_g (lw_at lw_m2 143 rfl) rfl
theorem q550 : (Jvm.Cond.laysFinal "FirstSnuffer" "FirstSnuffer" "now" "LFirstSnuffer$State;") ∈ lw_all := lw_g (lw_at lw_m2 144 rfl) rfl
theorem q551 : (Jvm.Cond.soleField "FirstSnuffer" "now") ∈ lw_all := lw_g (lw_at lw_m2 145 rfl) rfl
theorem q552 : (Jvm.Cond.laysFinal "FirstSnuffer" "FirstSnuffer" "tried" "LFirstSnuffer$State;") ∈ lw_all := lw_g (lw_at lw_m2 146 rfl) rfl
theorem q553 : (Jvm.Cond.soleField "FirstSnuffer" "tried") ∈ lw_all := lw_g (lw_at lw_m2 147 rfl) rfl
theorem q554 : (Jvm.Cond.laysFinal "FirstSnuffer" "FirstSnuffer" "order" "[I") ∈ lw_all := lw_g (lw_at lw_m2 148 rfl) rfl
theorem q555 : (Jvm.Cond.soleField "FirstSnuffer" "order") ∈ lw_all := lw_g (lw_at lw_m2 149 rfl) rfl
theorem q556 : (Jvm.Cond.laysFinal "FirstSnuffer" "FirstSnuffer" "bestOrder" "[I") ∈ lw_all := lw_g (lw_at lw_m2 150 rfl) rfl
theorem q557 : (Jvm.Cond.soleField "FirstSnuffer" "bestOrder") ∈ lw_all := lw_g (lw_at lw_m2 151 rfl) rfl
theorem q558 : (Jvm.Cond.lays "FirstSnuffer" "FirstSnuffer" "fewestHours" "I") ∈ lw_all := lw_g (lw_at lw_m2 152 rfl) rfl
theorem q559 : (Jvm.Cond.soleField "FirstSnuffer" "fewestHours") ∈ lw_all := lw_g (lw_at lw_m2 153 rfl) rfl
theorem q560 : (Jvm.Cond.laysFinal "FirstSnuffer" "FirstSnuffer" "isUsed" "[Z") ∈ lw_all := lw_g (lw_at lw_m2 154 rfl) rfl
theorem q561 : (Jvm.Cond.soleField "FirstSnuffer" "isUsed") ∈ lw_all := lw_g (lw_at lw_m2 155 rfl) rfl
theorem q562 : (Jvm.Cond.laysFinal "FirstSnuffer" "FirstSnuffer" "reachedBy" "[I") ∈ lw_all := lw_g (lw_at lw_m2 156 rfl) rfl
theorem q563 : (Jvm.Cond.soleField "FirstSnuffer" "reachedBy") ∈ lw_all := lw_g (lw_at lw_m2 157 rfl) rfl
theorem q564 : (Jvm.Cond.laysFinal "FirstSnuffer" "FirstSnuffer" "rowHours" "[I") ∈ lw_all := lw_g (lw_at lw_m2 158 rfl) rfl
theorem q565 : (Jvm.Cond.soleField "FirstSnuffer" "rowHours") ∈ lw_all := lw_g (lw_at lw_m2 159 rfl) rfl
theorem q566 : (Jvm.Cond.laysFinal "FirstSnuffer" "FirstSnuffer" "rowThing" "[I") ∈ lw_all := lw_g (lw_at lw_m2 160 rfl) rfl
theorem q567 : (Jvm.Cond.soleField "FirstSnuffer" "rowThing") ∈ lw_all := lw_g (lw_at lw_m2 161 rfl) rfl
theorem q568 : (Jvm.Cond.laysFinal "FirstSnuffer" "FirstSnuffer" "rowStrength" "[I") ∈ lw_all := lw_g (lw_at lw_m2 162 rfl) rfl
theorem q569 : (Jvm.Cond.soleField "FirstSnuffer" "rowStrength") ∈ lw_all := lw_g (lw_at lw_m2 163 rfl) rfl
theorem q570 : (Jvm.Cond.lays "FirstSnuffer" "FirstSnuffer" "rows" "I") ∈ lw_all := lw_g (lw_at lw_m2 164 rfl) rfl
theorem q571 : (Jvm.Cond.soleField "FirstSnuffer" "rows") ∈ lw_all := lw_g (lw_at lw_m2 165 rfl) rfl
theorem q572 : (Jvm.Cond.laysFinal "FirstSnuffer" "FirstSnuffer" "strengthBy" "[[[I") ∈ lw_all := lw_g (lw_at lw_m2 166 rfl) rfl
theorem q573 : (Jvm.Cond.soleField "FirstSnuffer" "strengthBy") ∈ lw_all := lw_g (lw_at lw_m2 167 rfl) rfl
theorem q574 : (Jvm.Cond.laysFinal "FirstSnuffer" "FirstSnuffer" "kept" "[LFirstSnuffer$State;") ∈ lw_all := lw_g (lw_at lw_m2 168 rfl) rfl
theorem q575 : (Jvm.Cond.soleField "FirstSnuffer" "kept") ∈ lw_all := lw_g (lw_at lw_m2 169 rfl) rfl
theorem q576 : (Jvm.Cond.lays "FirstSnuffer" "FirstSnuffer" "undos" "I") ∈ lw_all := lw_g (lw_at lw_m2 170 rfl) rfl
theorem q577 : (Jvm.Cond.soleField "FirstSnuffer" "undos") ∈ lw_all := lw_g (lw_at lw_m2 171 rfl) rfl
theorem q578 : (Jvm.Cond.lays "FirstSnuffer" "FirstSnuffer" "seeds" "J") ∈ lw_all := lw_g (lw_at lw_m2 172 rfl) rfl
theorem q579 : (Jvm.Cond.soleField "FirstSnuffer" "seeds") ∈ lw_all := lw_g (lw_at lw_m2 173 rfl) rfl
theorem q580 : (Jvm.Cond.lays "FirstSnuffer" "FirstSnuffer" "askedThing" "I") ∈ lw_all := lw_g (lw_at lw_m2 174 rfl) rfl
theorem q581 : (Jvm.Cond.soleField "FirstSnuffer" "askedThing") ∈ lw_all := lw_g (lw_at lw_m2 175 rfl) rfl
theorem q582 : (Jvm.Cond.laysFinal "FirstSnuffer" "FirstSnuffer" "out" "[B") ∈ lw_all := lw_g (lw_at lw_m2 176 rfl) rfl
theorem q583 : (Jvm.Cond.soleField "FirstSnuffer" "out") ∈ lw_all := lw_g (lw_at lw_m2 177 rfl) rfl
theorem q584 : (Jvm.Cond.lays "FirstSnuffer" "FirstSnuffer" "outs" "I") ∈ lw_all := lw_g (lw_at lw_m2 178 rfl) rfl
theorem q585 : (Jvm.Cond.soleField "FirstSnuffer" "outs") ∈ lw_all := lw_g (lw_at lw_m2 179 rfl) rfl
theorem q586 : (Jvm.Cond.superclass "FirstSnuffer" "java/lang/Object") ∈ lw_all := lw_g (lw_at lw_m2 180 rfl) rfl
theorem q589 : (Jvm.Cond.instanceMethod ({ cls := "FirstSnuffer", name := "feed", desc := "(IIIII)I" } : Jvm.MethodName)) ∈ lw_all := lw_g (lw_at lw_m2 183 rfl) rfl
theorem q590 : (Jvm.Cond.selects "FirstSnuffer" ({ cls := "FirstSnuffer", name := "feed", desc := "(IIIII)I" } : Jvm.MethodName) ({ cls := "FirstSnuffer", name := "feed", desc := "(IIIII)I" } : Jvm.MethodName)) ∈ lw_all := lw_g (lw_at lw_m2 184 rfl) rfl
theorem q591 : (Jvm.Cond.code ({ cls := "FirstSnuffer", name := "feed", desc := "(IIIII)I" } : Jvm.MethodName) prog_1_method_10_code (6 : Nat) (Option.some Jvm.ClassFile.FieldType.int)) ∈ lw_all := lw_g (lw_at lw_m2 185 rfl) rfl
theorem q592 : (Jvm.Cond.methodLink "FirstSnuffer" (125 : Nat) ({ cls := "FirstSnuffer", name := "refuses", desc := "(I)I" } : Jvm.MethodName)) ∈ lw_all := lw_g (lw_at lw_m2 186 rfl) rfl
theorem q593 : (Jvm.Cond.privateMethod ({ cls := "FirstSnuffer", name := "refuses", desc := "(I)I" } : Jvm.MethodName)) ∈ lw_tbl := lw_at lw_m2 187 rfl
theorem q594 : (Jvm.Cond.instanceMethod ({ cls := "FirstSnuffer", name := "refuses", desc := "(I)I" } : Jvm.MethodName)) ∈ lw_all := lw_g (lw_at lw_m2 188 rfl) rfl
theorem q595 : (Jvm.Cond.code ({ cls := "FirstSnuffer", name := "refuses", desc := "(I)I" } : Jvm.MethodName) prog_1_method_8_code (2 : Nat) (Option.some Jvm.ClassFile.FieldType.int)) ∈ lw_all := lw_g (lw_at lw_m2 189 rfl) rfl
theorem q596 : (Jvm.Cond.methodLink "FirstSnuffer" (129 : Nat) ({ cls := "FirstSnuffer", name := "lays", desc := "(I)V" } : Jvm.MethodName)) ∈ lw_all := lw_g (lw_at lw_m2 190 rfl) rfl
theorem q597 : (Jvm.Cond.privateMethod ({ cls := "FirstSnuffer", name := "lays", desc := "(I)V" } : Jvm.MethodName)) ∈ lw_tbl := lw_at lw_m2 191 rfl
theorem q598 : (Jvm.Cond.instanceMethod ({ cls := "FirstSnuffer", name := "lays", desc := "(I)V" } : Jvm.MethodName)) ∈ lw_all := lw_g (lw_at lw_m2 192 rfl) rfl
theorem q599 : (Jvm.Cond.code ({ cls := "FirstSnuffer", name := "lays", desc := "(I)V" } : Jvm.MethodName) prog_1_method_9_code (3 : Nat) (Option.none : Option Jvm.ClassFile.FieldType)) ∈ lw_all := lw_g (lw_at lw_m2 193 rfl) rfl
theorem q601 : (Jvm.Cond.instanceMethod ({ cls := "FirstSnuffer", name := "end", desc := "(I)Z" } : Jvm.MethodName)) ∈ lw_all := lw_g (lw_at lw_m2 195 rfl) rfl
theorem q602 : (Jvm.Cond.selects "FirstSnuffer" ({ cls := "FirstSnuffer", name := "end", desc := "(I)Z" } : Jvm.MethodName) ({ cls := "FirstSnuffer", name := "end", desc := "(I)Z" } : Jvm.MethodName)) ∈ lw_all := lw_g (lw_at lw_m2 196 rfl) rfl
theorem q603 : (Jvm.Cond.code ({ cls := "FirstSnuffer", name := "end", desc := "(I)Z" } : Jvm.MethodName) prog_1_method_11_code (2 : Nat) (Option.some Jvm.ClassFile.FieldType.boolean)) ∈ lw_all := lw_g (lw_at lw_m2 197 rfl) rfl
theorem q605 : (Jvm.Cond.instanceMethod ({ cls := "FirstSnuffer", name := "household", desc := "()I" } : Jvm.MethodName)) ∈ lw_all := lw_g (lw_at lw_m2 199 rfl) rfl
theorem q606 : (Jvm.Cond.selects "FirstSnuffer" ({ cls := "FirstSnuffer", name := "household", desc := "()I" } : Jvm.MethodName) ({ cls := "FirstSnuffer", name := "household", desc := "()I" } : Jvm.MethodName)) ∈ lw_all := lw_g (lw_at lw_m2 200 rfl) rfl
theorem q607 : (Jvm.Cond.codeWith ({ cls := "FirstSnuffer", name := "household", desc := "()I" } : Jvm.MethodName) prog_1_method_13_code (2 : Nat) (Option.some Jvm.ClassFile.FieldType.int) [((10 : Nat), (25 : Nat), (28 : Nat), (144 : Nat))]) ∈ lw_all := lw_g (lw_at lw_m2 201 rfl) rfl
theorem q608 : (Jvm.Cond.classLink "FirstSnuffer" (144 : Nat) "FirstSnuffer$Fault") ∈ lw_all := lw_g (lw_at lw_m2 202 rfl) rfl
theorem q609 : (Jvm.Cond.methodLink "FirstSnuffer" (136 : Nat) ({ cls := "FirstSnuffer", name := "tapeTaken", desc := "()I" } : Jvm.MethodName)) ∈ lw_all := lw_g (lw_at lw_m2 203 rfl) rfl
theorem q610 : (Jvm.Cond.privateMethod ({ cls := "FirstSnuffer", name := "tapeTaken", desc := "()I" } : Jvm.MethodName)) ∈ lw_tbl := lw_at lw_m2 204 rfl
theorem q611 : (Jvm.Cond.instanceMethod ({ cls := "FirstSnuffer", name := "tapeTaken", desc := "()I" } : Jvm.MethodName)) ∈ lw_all := lw_g (lw_at lw_m2 205 rfl) rfl
theorem q612 : (Jvm.Cond.code ({ cls := "FirstSnuffer", name := "tapeTaken", desc := "()I" } : Jvm.MethodName) prog_1_method_12_code (2 : Nat) (Option.some Jvm.ClassFile.FieldType.int)) ∈ lw_all := lw_g (lw_at lw_m2 206 rfl) rfl
theorem q613 : (Jvm.Cond.methodLink "FirstSnuffer" (140 : Nat) ({ cls := "FirstSnuffer$Reader", name := "all", desc := "(I)LFirstSnuffer$Household;" } : Jvm.MethodName)) ∈ lw_all := lw_g (lw_at lw_m2 207 rfl) rfl
theorem q640 : (Jvm.Cond.static ({ cls := "FirstSnuffer", name := "isLetter", desc := "(I)Z" } : Jvm.MethodName)) ∈ lw_all := lw_g (lw_at lw_m2 234 rfl) rfl
theorem q641 : (Jvm.Cond.code ({ cls := "FirstSnuffer", name := "isLetter", desc := "(I)Z" } : Jvm.MethodName) prog_1_method_4_code (1 : Nat) (Option.some Jvm.ClassFile.FieldType.boolean)) ∈ lw_all := lw_g (lw_at lw_m2 235 rfl) rfl
theorem q647 : (Jvm.Cond.static ({ cls := "FirstSnuffer", name := "isDigit", desc := "(I)Z" } : Jvm.MethodName)) ∈ lw_all := lw_g (lw_at lw_m3 1 rfl) rfl
theorem q648 : (Jvm.Cond.code ({ cls := "FirstSnuffer", name := "isDigit", desc := "(I)Z" } : Jvm.MethodName) prog_1_method_5_code (1 : Nat) (Option.some Jvm.ClassFile.FieldType.boolean)) ∈ lw_all := lw_g (lw_at lw_m3 2 rfl) rfl
theorem q809 : (Jvm.Cond.laysStatic "FirstSnuffer" "OWN" "[Ljava/lang/String;") ∈ lw_tbl := lw_at lw_m3 163 rfl
theorem q811 : (Jvm.Cond.static ({ cls := "FirstSnuffer", name := "find", desc := "(Ljava/lang/String;[Ljava/lang/String;)I" } : Jvm.MethodName)) ∈ lw_all := lw_g (lw_at lw_m3 165 rfl) rfl
theorem q812 : (Jvm.Cond.code ({ cls := "FirstSnuffer", name := "find", desc := "(Ljava/lang/String;[Ljava/lang/String;)I" } : Jvm.MethodName) prog_1_method_6_code (3 : Nat) (Option.some Jvm.ClassFile.FieldType.int)) ∈ lw_all := lw_g (lw_at lw_m3 166 rfl) rfl
theorem q813 : (Jvm.Cond.methodLink "FirstSnuffer" (16 : Nat) ({ cls := "java/lang/String", name := "equals", desc := "(Ljava/lang/Object;)Z" } : Jvm.MethodName)) ∈ lw_all := lw_g (lw_at lw_m3 167 rfl) rfl
theorem q882 : (Jvm.Cond.selects "FirstSnuffer" ({ cls := "java/lang/Object", name := "getClass", desc := "()Ljava/lang/Class;" } : Jvm.MethodName) ({ cls := "java/lang/Object", name := "getClass", desc := "()Ljava/lang/Class;" } : Jvm.MethodName)) ∈ lw_all := lw_g (lw_at lw_m3 236 rfl) rfl
theorem q944 : (Jvm.Cond.static ({ cls := "FirstSnuffer", name := "is", desc := "(III)Z" } : Jvm.MethodName)) ∈ lw_all := lw_g (lw_at lw_m4 58 rfl) rfl
theorem q945 : (Jvm.Cond.code ({ cls := "FirstSnuffer", name := "is", desc := "(III)Z" } : Jvm.MethodName) prog_1_method_1_code (3 : Nat) (Option.some Jvm.ClassFile.FieldType.boolean)) ∈ lw_all := lw_g (lw_at lw_m4 59 rfl) rfl
theorem q951 : (Jvm.Cond.fieldLinkNest "FirstSnuffer" (199 : Nat) "FirstSnuffer$Door" "one" "I" "FirstSnuffer") ∈ lw_tbl := lw_at lw_m4 65 rfl
theorem q953 : (Jvm.Cond.fieldLinkNest "FirstSnuffer" (202 : Nat) "FirstSnuffer$Door" "other" "I" "FirstSnuffer") ∈ lw_tbl := lw_at lw_m4 67 rfl
theorem q955 : (Jvm.Cond.fieldLinkNest "FirstSnuffer" (205 : Nat) "FirstSnuffer$Door" "steps" "I" "FirstSnuffer") ∈ lw_tbl := lw_at lw_m4 69 rfl
theorem q978 : (Jvm.Cond.fieldLinkNest "FirstSnuffer" (248 : Nat) "FirstSnuffer$Burning" "hall" "I" "FirstSnuffer") ∈ lw_tbl := lw_at lw_m4 92 rfl
theorem q983 : (Jvm.Cond.fieldLinkNest "FirstSnuffer" (251 : Nat) "FirstSnuffer$Burning" "heat" "I" "FirstSnuffer") ∈ lw_tbl := lw_at lw_m4 97 rfl
theorem q1014 : (Jvm.Cond.fieldLinkNest "FirstSnuffer" (270 : Nat) "FirstSnuffer$Tie" "from" "I" "FirstSnuffer") ∈ lw_tbl := lw_at lw_m4 128 rfl
theorem q1018 : (Jvm.Cond.fieldLinkNest "FirstSnuffer" (273 : Nat) "FirstSnuffer$Tie" "to" "I" "FirstSnuffer") ∈ lw_tbl := lw_at lw_m4 132 rfl
theorem q1122 : (Jvm.Cond.laysStatic "FirstSnuffer" "ASKED" "[Ljava/lang/String;") ∈ lw_tbl := lw_at lw_m4 236 rfl
theorem q1124 : (Jvm.Cond.static ({ cls := "FirstSnuffer", name := "has", desc := "(II)Z" } : Jvm.MethodName)) ∈ lw_all := lw_g (lw_at lw_m4 238 rfl) rfl
theorem q1125 : (Jvm.Cond.code ({ cls := "FirstSnuffer", name := "has", desc := "(II)Z" } : Jvm.MethodName) prog_1_method_2_code (2 : Nat) (Option.some Jvm.ClassFile.FieldType.boolean)) ∈ lw_all := lw_g (lw_at lw_m4 239 rfl) rfl
theorem q1137 : (Jvm.Cond.laysStatic "FirstSnuffer" "LOOKED" "[Ljava/lang/String;") ∈ lw_tbl := lw_at lw_m5 11 rfl
theorem q1297 : (Jvm.Cond.methodLink "FirstSnuffer" (152 : Nat) ({ cls := "FirstSnuffer$State", name := "begins", desc := "()V" } : Jvm.MethodName)) ∈ lw_all := lw_g (lw_at lw_m5 171 rfl) rfl
theorem q1302 : (Jvm.Cond.privateMethod ({ cls := "FirstSnuffer", name := "ties", desc := "()I" } : Jvm.MethodName)) ∈ lw_tbl := lw_at lw_m5 176 rfl
theorem q1303 : (Jvm.Cond.instanceMethod ({ cls := "FirstSnuffer", name := "ties", desc := "()I" } : Jvm.MethodName)) ∈ lw_all := lw_g (lw_at lw_m5 177 rfl) rfl
theorem q1304 : (Jvm.Cond.code ({ cls := "FirstSnuffer", name := "ties", desc := "()I" } : Jvm.MethodName) prog_1_method_17_code (1 : Nat) (Option.some Jvm.ClassFile.FieldType.int)) ∈ lw_all := lw_g (lw_at lw_m5 178 rfl) rfl
theorem q1306 : (Jvm.Cond.privateMethod ({ cls := "FirstSnuffer", name := "things", desc := "()I" } : Jvm.MethodName)) ∈ lw_tbl := lw_at lw_m5 180 rfl
theorem q1307 : (Jvm.Cond.instanceMethod ({ cls := "FirstSnuffer", name := "things", desc := "()I" } : Jvm.MethodName)) ∈ lw_all := lw_g (lw_at lw_m5 181 rfl) rfl
theorem q1308 : (Jvm.Cond.code ({ cls := "FirstSnuffer", name := "things", desc := "()I" } : Jvm.MethodName) prog_1_method_16_code (1 : Nat) (Option.some Jvm.ClassFile.FieldType.int)) ∈ lw_all := lw_g (lw_at lw_m5 182 rfl) rfl
theorem q1310 : (Jvm.Cond.privateMethod ({ cls := "FirstSnuffer", name := "thingOf", desc := "(I)LFirstSnuffer$Burning;" } : Jvm.MethodName)) ∈ lw_tbl := lw_at lw_m5 184 rfl
theorem q1311 : (Jvm.Cond.instanceMethod ({ cls := "FirstSnuffer", name := "thingOf", desc := "(I)LFirstSnuffer$Burning;" } : Jvm.MethodName)) ∈ lw_all := lw_g (lw_at lw_m5 185 rfl) rfl
theorem q1312 : (Jvm.Cond.code ({ cls := "FirstSnuffer", name := "thingOf", desc := "(I)LFirstSnuffer$Burning;" } : Jvm.MethodName) prog_1_method_21_code (2 : Nat) (Option.some (Jvm.ClassFile.FieldType.object "FirstSnuffer$Burning"))) ∈ lw_all := lw_g (lw_at lw_m5 186 rfl) rfl
theorem q1313 : (Jvm.Cond.classLink "FirstSnuffer" (189 : Nat) "FirstSnuffer$Burning") ∈ lw_all := lw_g (lw_at lw_m5 187 rfl) rfl
theorem q1315 : (Jvm.Cond.instanceMethod ({ cls := "FirstSnuffer", name := "fault", desc := "(I)I" } : Jvm.MethodName)) ∈ lw_all := lw_g (lw_at lw_m5 189 rfl) rfl
theorem q1316 : (Jvm.Cond.selects "FirstSnuffer" ({ cls := "FirstSnuffer", name := "fault", desc := "(I)I" } : Jvm.MethodName) ({ cls := "FirstSnuffer", name := "fault", desc := "(I)I" } : Jvm.MethodName)) ∈ lw_all := lw_g (lw_at lw_m5 190 rfl) rfl
theorem q1317 : (Jvm.Cond.code ({ cls := "FirstSnuffer", name := "fault", desc := "(I)I" } : Jvm.MethodName) prog_1_method_14_code (2 : Nat) (Option.some Jvm.ClassFile.FieldType.int)) ∈ lw_all := lw_g (lw_at lw_m5 191 rfl) rfl
theorem q1319 : (Jvm.Cond.instanceMethod ({ cls := "FirstSnuffer", name := "has", desc := "(I)I" } : Jvm.MethodName)) ∈ lw_all := lw_g (lw_at lw_m5 193 rfl) rfl
theorem q1320 : (Jvm.Cond.selects "FirstSnuffer" ({ cls := "FirstSnuffer", name := "has", desc := "(I)I" } : Jvm.MethodName) ({ cls := "FirstSnuffer", name := "has", desc := "(I)I" } : Jvm.MethodName)) ∈ lw_all := lw_g (lw_at lw_m5 194 rfl) rfl
theorem q1321 : (Jvm.Cond.code ({ cls := "FirstSnuffer", name := "has", desc := "(I)I" } : Jvm.MethodName) prog_1_method_26_code (2 : Nat) (Option.some Jvm.ClassFile.FieldType.int)) ∈ lw_all := lw_g (lw_at lw_m5 195 rfl) rfl
theorem q1322 : (Jvm.Cond.methodLink "FirstSnuffer" (179 : Nat) ({ cls := "FirstSnuffer", name := "halls", desc := "()I" } : Jvm.MethodName)) ∈ lw_all := lw_g (lw_at lw_m5 196 rfl) rfl
theorem q1323 : (Jvm.Cond.privateMethod ({ cls := "FirstSnuffer", name := "halls", desc := "()I" } : Jvm.MethodName)) ∈ lw_tbl := lw_at lw_m5 197 rfl
theorem q1324 : (Jvm.Cond.instanceMethod ({ cls := "FirstSnuffer", name := "halls", desc := "()I" } : Jvm.MethodName)) ∈ lw_all := lw_g (lw_at lw_m5 198 rfl) rfl
theorem q1325 : (Jvm.Cond.code ({ cls := "FirstSnuffer", name := "halls", desc := "()I" } : Jvm.MethodName) prog_1_method_15_code (1 : Nat) (Option.some Jvm.ClassFile.FieldType.int)) ∈ lw_all := lw_g (lw_at lw_m5 199 rfl) rfl
theorem q1326 : (Jvm.Cond.methodLink "FirstSnuffer" (181 : Nat) ({ cls := "FirstSnuffer", name := "things", desc := "()I" } : Jvm.MethodName)) ∈ lw_all := lw_g (lw_at lw_m5 200 rfl) rfl
theorem q1327 : (Jvm.Cond.methodLink "FirstSnuffer" (183 : Nat) ({ cls := "FirstSnuffer", name := "ties", desc := "()I" } : Jvm.MethodName)) ∈ lw_all := lw_g (lw_at lw_m5 201 rfl) rfl
theorem q1328 : (Jvm.Cond.methodLink "FirstSnuffer" (217 : Nat) ({ cls := "FirstSnuffer$State", name := "lit", desc := "()I" } : Jvm.MethodName)) ∈ lw_all := lw_g (lw_at lw_m5 202 rfl) rfl
theorem q1336 : (Jvm.Cond.methodLink "FirstSnuffer" (220 : Nat) ({ cls := "java/lang/Integer", name := "bitCount", desc := "(I)I" } : Jvm.MethodName)) ∈ lw_all := lw_g (lw_at lw_m5 210 rfl) rfl
theorem q1343 : (Jvm.Cond.instanceMethod ({ cls := "FirstSnuffer", name := "letter", desc := "(III)I" } : Jvm.MethodName)) ∈ lw_all := lw_g (lw_at lw_m5 217 rfl) rfl
theorem q1344 : (Jvm.Cond.selects "FirstSnuffer" ({ cls := "FirstSnuffer", name := "letter", desc := "(III)I" } : Jvm.MethodName) ({ cls := "FirstSnuffer", name := "letter", desc := "(III)I" } : Jvm.MethodName)) ∈ lw_all := lw_g (lw_at lw_m5 218 rfl) rfl
theorem q1345 : (Jvm.Cond.code ({ cls := "FirstSnuffer", name := "letter", desc := "(III)I" } : Jvm.MethodName) prog_1_method_27_code (5 : Nat) (Option.some Jvm.ClassFile.FieldType.int)) ∈ lw_all := lw_g (lw_at lw_m5 219 rfl) rfl
theorem q1346 : (Jvm.Cond.methodLink "FirstSnuffer" (231 : Nat) ({ cls := "FirstSnuffer", name := "is", desc := "(III)Z" } : Jvm.MethodName)) ∈ lw_all := lw_g (lw_at lw_m5 220 rfl) rfl
theorem q1347 : (Jvm.Cond.classLink "FirstSnuffer" (235 : Nat) "FirstSnuffer$Named") ∈ lw_all := lw_g (lw_at lw_m5 221 rfl) rfl
theorem q1348 : (Jvm.Cond.methodLink "FirstSnuffer" (237 : Nat) ({ cls := "FirstSnuffer$Named", name := "signAt", desc := "(I)I" } : Jvm.MethodName)) ∈ lw_all := lw_g (lw_at lw_m5 222 rfl) rfl
theorem q1367 : (Jvm.Cond.instanceMethod ({ cls := "FirstSnuffer", name := "thing", desc := "(II)I" } : Jvm.MethodName)) ∈ lw_all := lw_g (lw_at lw_m6 1 rfl) rfl
theorem q1368 : (Jvm.Cond.selects "FirstSnuffer" ({ cls := "FirstSnuffer", name := "thing", desc := "(II)I" } : Jvm.MethodName) ({ cls := "FirstSnuffer", name := "thing", desc := "(II)I" } : Jvm.MethodName)) ∈ lw_all := lw_g (lw_at lw_m6 2 rfl) rfl
theorem q1369 : (Jvm.Cond.code ({ cls := "FirstSnuffer", name := "thing", desc := "(II)I" } : Jvm.MethodName) prog_1_method_28_code (3 : Nat) (Option.some Jvm.ClassFile.FieldType.int)) ∈ lw_all := lw_g (lw_at lw_m6 3 rfl) rfl
theorem q1370 : (Jvm.Cond.methodLink "FirstSnuffer" (240 : Nat) ({ cls := "FirstSnuffer", name := "isThing", desc := "(I)Z" } : Jvm.MethodName)) ∈ lw_all := lw_g (lw_at lw_m6 4 rfl) rfl
theorem q1371 : (Jvm.Cond.privateMethod ({ cls := "FirstSnuffer", name := "isThing", desc := "(I)Z" } : Jvm.MethodName)) ∈ lw_tbl := lw_at lw_m6 5 rfl
theorem q1372 : (Jvm.Cond.instanceMethod ({ cls := "FirstSnuffer", name := "isThing", desc := "(I)Z" } : Jvm.MethodName)) ∈ lw_all := lw_g (lw_at lw_m6 6 rfl) rfl
theorem q1373 : (Jvm.Cond.code ({ cls := "FirstSnuffer", name := "isThing", desc := "(I)Z" } : Jvm.MethodName) prog_1_method_19_code (2 : Nat) (Option.some Jvm.ClassFile.FieldType.boolean)) ∈ lw_all := lw_g (lw_at lw_m6 7 rfl) rfl
theorem q1374 : (Jvm.Cond.methodLink "FirstSnuffer" (244 : Nat) ({ cls := "FirstSnuffer", name := "thingOf", desc := "(I)LFirstSnuffer$Burning;" } : Jvm.MethodName)) ∈ lw_all := lw_g (lw_at lw_m6 8 rfl) rfl
theorem q1375 : (Jvm.Cond.methodLink "FirstSnuffer" (260 : Nat) ({ cls := "FirstSnuffer$State", name := "isMinding", desc := "(I)Z" } : Jvm.MethodName)) ∈ lw_all := lw_g (lw_at lw_m6 9 rfl) rfl
theorem q1414 : (Jvm.Cond.static ({ cls := "FirstSnuffer", name := "held", desc := "(J)J" } : Jvm.MethodName)) ∈ lw_all := lw_g (lw_at lw_m6 48 rfl) rfl
theorem q1415 : (Jvm.Cond.code ({ cls := "FirstSnuffer", name := "held", desc := "(J)J" } : Jvm.MethodName) prog_1_method_3_code (2 : Nat) (Option.some Jvm.ClassFile.FieldType.long)) ∈ lw_all := lw_g (lw_at lw_m6 49 rfl) rfl
theorem q1416 : (Jvm.Cond.constantLong "FirstSnuffer" (3 : Nat) (-1000000 : Int64)) ∈ lw_all := lw_g (lw_at lw_m6 50 rfl) rfl
theorem q1417 : (Jvm.Cond.constantLong "FirstSnuffer" (5 : Nat) (1000000 : Int64)) ∈ lw_all := lw_g (lw_at lw_m6 51 rfl) rfl
theorem q1418 : (Jvm.Cond.methodLink "FirstSnuffer" (7 : Nat) ({ cls := "java/lang/Math", name := "min", desc := "(JJ)J" } : Jvm.MethodName)) ∈ lw_all := lw_g (lw_at lw_m6 52 rfl) rfl
theorem q1421 : (Jvm.Cond.methodLink "FirstSnuffer" (13 : Nat) ({ cls := "java/lang/Math", name := "max", desc := "(JJ)J" } : Jvm.MethodName)) ∈ lw_all := lw_g (lw_at lw_m6 55 rfl) rfl
theorem q1440 : (Jvm.Cond.privateMethod ({ cls := "FirstSnuffer", name := "looked", desc := "(IJ)J" } : Jvm.MethodName)) ∈ lw_tbl := lw_at lw_m6 74 rfl
theorem q1441 : (Jvm.Cond.instanceMethod ({ cls := "FirstSnuffer", name := "looked", desc := "(IJ)J" } : Jvm.MethodName)) ∈ lw_all := lw_g (lw_at lw_m6 75 rfl) rfl
theorem q1442 : (Jvm.Cond.code ({ cls := "FirstSnuffer", name := "looked", desc := "(IJ)J" } : Jvm.MethodName) prog_1_method_65_code (4 : Nat) (Option.some Jvm.ClassFile.FieldType.long)) ∈ lw_all := lw_g (lw_at lw_m6 76 rfl) rfl
theorem q1443 : (Jvm.Cond.methodLink "FirstSnuffer" (280 : Nat) ({ cls := "FirstSnuffer$State", name := "along", desc := "(I)I" } : Jvm.MethodName)) ∈ lw_all := lw_g (lw_at lw_m6 77 rfl) rfl
theorem q1449 : (Jvm.Cond.privateMethod ({ cls := "FirstSnuffer", name := "tieOf", desc := "(I)LFirstSnuffer$Tie;" } : Jvm.MethodName)) ∈ lw_tbl := lw_at lw_m6 83 rfl
theorem q1450 : (Jvm.Cond.instanceMethod ({ cls := "FirstSnuffer", name := "tieOf", desc := "(I)LFirstSnuffer$Tie;" } : Jvm.MethodName)) ∈ lw_all := lw_g (lw_at lw_m6 84 rfl) rfl
theorem q1451 : (Jvm.Cond.code ({ cls := "FirstSnuffer", name := "tieOf", desc := "(I)LFirstSnuffer$Tie;" } : Jvm.MethodName) prog_1_method_22_code (2 : Nat) (Option.some (Jvm.ClassFile.FieldType.object "FirstSnuffer$Tie"))) ∈ lw_all := lw_g (lw_at lw_m6 85 rfl) rfl
theorem q1452 : (Jvm.Cond.classLink "FirstSnuffer" (191 : Nat) "FirstSnuffer$Tie") ∈ lw_all := lw_g (lw_at lw_m6 86 rfl) rfl
theorem q1453 : (Jvm.Cond.methodLink "FirstSnuffer" (276 : Nat) ({ cls := "FirstSnuffer", name := "has", desc := "(II)Z" } : Jvm.MethodName)) ∈ lw_all := lw_g (lw_at lw_m6 87 rfl) rfl
theorem q1454 : (Jvm.Cond.methodLink "FirstSnuffer" (286 : Nat) ({ cls := "FirstSnuffer", name := "wayBetween", desc := "(II)I" } : Jvm.MethodName)) ∈ lw_all := lw_g (lw_at lw_m6 88 rfl) rfl
theorem q1455 : (Jvm.Cond.privateMethod ({ cls := "FirstSnuffer", name := "wayBetween", desc := "(II)I" } : Jvm.MethodName)) ∈ lw_tbl := lw_at lw_m6 89 rfl
theorem q1456 : (Jvm.Cond.instanceMethod ({ cls := "FirstSnuffer", name := "wayBetween", desc := "(II)I" } : Jvm.MethodName)) ∈ lw_all := lw_g (lw_at lw_m6 90 rfl) rfl
theorem q1457 : (Jvm.Cond.code ({ cls := "FirstSnuffer", name := "wayBetween", desc := "(II)I" } : Jvm.MethodName) prog_1_method_25_code (3 : Nat) (Option.some Jvm.ClassFile.FieldType.int)) ∈ lw_all := lw_g (lw_at lw_m6 91 rfl) rfl
theorem q1458 : (Jvm.Cond.constantLong "FirstSnuffer" (380 : Nat) (-1 : Int64)) ∈ lw_all := lw_g (lw_at lw_m6 92 rfl) rfl
theorem q1485 : (Jvm.Cond.instanceMethod ({ cls := "FirstSnuffer", name := "tie", desc := "(II)I" } : Jvm.MethodName)) ∈ lw_all := lw_g (lw_at lw_m6 119 rfl) rfl
theorem q1486 : (Jvm.Cond.selects "FirstSnuffer" ({ cls := "FirstSnuffer", name := "tie", desc := "(II)I" } : Jvm.MethodName) ({ cls := "FirstSnuffer", name := "tie", desc := "(II)I" } : Jvm.MethodName)) ∈ lw_all := lw_g (lw_at lw_m6 120 rfl) rfl
theorem q1487 : (Jvm.Cond.code ({ cls := "FirstSnuffer", name := "tie", desc := "(II)I" } : Jvm.MethodName) prog_1_method_29_code (3 : Nat) (Option.some Jvm.ClassFile.FieldType.int)) ∈ lw_all := lw_g (lw_at lw_m6 121 rfl) rfl
theorem q1488 : (Jvm.Cond.methodLink "FirstSnuffer" (263 : Nat) ({ cls := "FirstSnuffer", name := "isTie", desc := "(I)Z" } : Jvm.MethodName)) ∈ lw_all := lw_g (lw_at lw_m6 122 rfl) rfl
theorem q1489 : (Jvm.Cond.privateMethod ({ cls := "FirstSnuffer", name := "isTie", desc := "(I)Z" } : Jvm.MethodName)) ∈ lw_tbl := lw_at lw_m6 123 rfl
theorem q1490 : (Jvm.Cond.instanceMethod ({ cls := "FirstSnuffer", name := "isTie", desc := "(I)Z" } : Jvm.MethodName)) ∈ lw_all := lw_g (lw_at lw_m6 124 rfl) rfl
theorem q1491 : (Jvm.Cond.code ({ cls := "FirstSnuffer", name := "isTie", desc := "(I)Z" } : Jvm.MethodName) prog_1_method_20_code (2 : Nat) (Option.some Jvm.ClassFile.FieldType.boolean)) ∈ lw_all := lw_g (lw_at lw_m6 125 rfl) rfl
theorem q1492 : (Jvm.Cond.methodLink "FirstSnuffer" (266 : Nat) ({ cls := "FirstSnuffer", name := "tieOf", desc := "(I)LFirstSnuffer$Tie;" } : Jvm.MethodName)) ∈ lw_all := lw_g (lw_at lw_m6 126 rfl) rfl
theorem q1494 : (Jvm.Cond.instanceMethod ({ cls := "FirstSnuffer", name := "ends", desc := "(I)I" } : Jvm.MethodName)) ∈ lw_all := lw_g (lw_at lw_m6 128 rfl) rfl
theorem q1495 : (Jvm.Cond.selects "FirstSnuffer" ({ cls := "FirstSnuffer", name := "ends", desc := "(I)I" } : Jvm.MethodName) ({ cls := "FirstSnuffer", name := "ends", desc := "(I)I" } : Jvm.MethodName)) ∈ lw_all := lw_g (lw_at lw_m6 129 rfl) rfl
theorem q1496 : (Jvm.Cond.code ({ cls := "FirstSnuffer", name := "ends", desc := "(I)I" } : Jvm.MethodName) prog_1_method_30_code (2 : Nat) (Option.some Jvm.ClassFile.FieldType.int)) ∈ lw_all := lw_g (lw_at lw_m6 130 rfl) rfl
theorem q1498 : (Jvm.Cond.instanceMethod ({ cls := "FirstSnuffer", name := "way", desc := "(II)I" } : Jvm.MethodName)) ∈ lw_all := lw_g (lw_at lw_m6 132 rfl) rfl
theorem q1499 : (Jvm.Cond.selects "FirstSnuffer" ({ cls := "FirstSnuffer", name := "way", desc := "(II)I" } : Jvm.MethodName) ({ cls := "FirstSnuffer", name := "way", desc := "(II)I" } : Jvm.MethodName)) ∈ lw_all := lw_g (lw_at lw_m6 133 rfl) rfl
theorem q1500 : (Jvm.Cond.code ({ cls := "FirstSnuffer", name := "way", desc := "(II)I" } : Jvm.MethodName) prog_1_method_31_code (3 : Nat) (Option.some Jvm.ClassFile.FieldType.int)) ∈ lw_all := lw_g (lw_at lw_m6 134 rfl) rfl
theorem q1501 : (Jvm.Cond.methodLink "FirstSnuffer" (283 : Nat) ({ cls := "FirstSnuffer", name := "isHall", desc := "(I)Z" } : Jvm.MethodName)) ∈ lw_all := lw_g (lw_at lw_m6 135 rfl) rfl
theorem q1502 : (Jvm.Cond.privateMethod ({ cls := "FirstSnuffer", name := "isHall", desc := "(I)Z" } : Jvm.MethodName)) ∈ lw_tbl := lw_at lw_m6 136 rfl
theorem q1503 : (Jvm.Cond.instanceMethod ({ cls := "FirstSnuffer", name := "isHall", desc := "(I)Z" } : Jvm.MethodName)) ∈ lw_all := lw_g (lw_at lw_m6 137 rfl) rfl
theorem q1504 : (Jvm.Cond.code ({ cls := "FirstSnuffer", name := "isHall", desc := "(I)Z" } : Jvm.MethodName) prog_1_method_18_code (2 : Nat) (Option.some Jvm.ClassFile.FieldType.boolean)) ∈ lw_all := lw_g (lw_at lw_m6 138 rfl) rfl
theorem q1506 : (Jvm.Cond.instanceMethod ({ cls := "FirstSnuffer", name := "kept", desc := "(II)I" } : Jvm.MethodName)) ∈ lw_all := lw_g (lw_at lw_m6 140 rfl) rfl
theorem q1507 : (Jvm.Cond.selects "FirstSnuffer" ({ cls := "FirstSnuffer", name := "kept", desc := "(II)I" } : Jvm.MethodName) ({ cls := "FirstSnuffer", name := "kept", desc := "(II)I" } : Jvm.MethodName)) ∈ lw_all := lw_g (lw_at lw_m6 141 rfl) rfl
theorem q1508 : (Jvm.Cond.code ({ cls := "FirstSnuffer", name := "kept", desc := "(II)I" } : Jvm.MethodName) prog_1_method_32_code (3 : Nat) (Option.some Jvm.ClassFile.FieldType.int)) ∈ lw_all := lw_g (lw_at lw_m6 142 rfl) rfl
theorem q1510 : (Jvm.Cond.instanceMethod ({ cls := "FirstSnuffer", name := "later", desc := "(II)I" } : Jvm.MethodName)) ∈ lw_all := lw_g (lw_at lw_m6 144 rfl) rfl
theorem q1511 : (Jvm.Cond.selects "FirstSnuffer" ({ cls := "FirstSnuffer", name := "later", desc := "(II)I" } : Jvm.MethodName) ({ cls := "FirstSnuffer", name := "later", desc := "(II)I" } : Jvm.MethodName)) ∈ lw_all := lw_g (lw_at lw_m6 145 rfl) rfl
theorem q1512 : (Jvm.Cond.code ({ cls := "FirstSnuffer", name := "later", desc := "(II)I" } : Jvm.MethodName) prog_1_method_34_code (3 : Nat) (Option.some Jvm.ClassFile.FieldType.int)) ∈ lw_all := lw_g (lw_at lw_m6 146 rfl) rfl
theorem q1513 : (Jvm.Cond.methodLink "FirstSnuffer" (291 : Nat) ({ cls := "FirstSnuffer", name := "isAhead", desc := "(III)Z" } : Jvm.MethodName)) ∈ lw_all := lw_g (lw_at lw_m6 147 rfl) rfl
theorem q1514 : (Jvm.Cond.privateMethod ({ cls := "FirstSnuffer", name := "isAhead", desc := "(III)Z" } : Jvm.MethodName)) ∈ lw_tbl := lw_at lw_m6 148 rfl
theorem q1515 : (Jvm.Cond.instanceMethod ({ cls := "FirstSnuffer", name := "isAhead", desc := "(III)Z" } : Jvm.MethodName)) ∈ lw_all := lw_g (lw_at lw_m6 149 rfl) rfl
theorem q1516 : (Jvm.Cond.code ({ cls := "FirstSnuffer", name := "isAhead", desc := "(III)Z" } : Jvm.MethodName) prog_1_method_33_code (4 : Nat) (Option.some Jvm.ClassFile.FieldType.boolean)) ∈ lw_all := lw_g (lw_at lw_m6 150 rfl) rfl
theorem q1517 : (Jvm.Cond.methodLink "FirstSnuffer" (294 : Nat) ({ cls := "FirstSnuffer$State", name := "copy", desc := "(LFirstSnuffer$State;)LFirstSnuffer$State;" } : Jvm.MethodName)) ∈ lw_all := lw_g (lw_at lw_m6 151 rfl) rfl
theorem q1521 : (Jvm.Cond.methodLink "FirstSnuffer" (298 : Nat) ({ cls := "FirstSnuffer$State", name := "goesBy", desc := "(I)I" } : Jvm.MethodName)) ∈ lw_all := lw_g (lw_at lw_m6 155 rfl) rfl
theorem q1535 : (Jvm.Cond.static ({ cls := "FirstSnuffer", name := "within", desc := "(JI)I" } : Jvm.MethodName)) ∈ lw_all := lw_g (lw_at lw_m6 169 rfl) rfl
theorem q1536 : (Jvm.Cond.code ({ cls := "FirstSnuffer", name := "within", desc := "(JI)I" } : Jvm.MethodName) prog_1_method_23_code (3 : Nat) (Option.some Jvm.ClassFile.FieldType.int)) ∈ lw_all := lw_g (lw_at lw_m6 170 rfl) rfl
theorem q1547 : (Jvm.Cond.instanceMethod ({ cls := "FirstSnuffer", name := "dies", desc := "(I)I" } : Jvm.MethodName)) ∈ lw_all := lw_g (lw_at lw_m6 181 rfl) rfl
theorem q1548 : (Jvm.Cond.selects "FirstSnuffer" ({ cls := "FirstSnuffer", name := "dies", desc := "(I)I" } : Jvm.MethodName) ({ cls := "FirstSnuffer", name := "dies", desc := "(I)I" } : Jvm.MethodName)) ∈ lw_all := lw_g (lw_at lw_m6 182 rfl) rfl
theorem q1549 : (Jvm.Cond.code ({ cls := "FirstSnuffer", name := "dies", desc := "(I)I" } : Jvm.MethodName) prog_1_method_35_code (3 : Nat) (Option.some Jvm.ClassFile.FieldType.int)) ∈ lw_all := lw_g (lw_at lw_m6 183 rfl) rfl
theorem q1550 : (Jvm.Cond.methodLink "FirstSnuffer" (301 : Nat) ({ cls := "FirstSnuffer$State", name := "isLit", desc := "(I)Z" } : Jvm.MethodName)) ∈ lw_all := lw_g (lw_at lw_m6 184 rfl) rfl
theorem q1551 : (Jvm.Cond.methodLink "FirstSnuffer" (304 : Nat) ({ cls := "FirstSnuffer$State", name := "goes", desc := "()I" } : Jvm.MethodName)) ∈ lw_all := lw_g (lw_at lw_m6 185 rfl) rfl
theorem q1553 : (Jvm.Cond.instanceMethod ({ cls := "FirstSnuffer", name := "round", desc := "(II)I" } : Jvm.MethodName)) ∈ lw_all := lw_g (lw_at lw_m6 187 rfl) rfl
theorem q1554 : (Jvm.Cond.selects "FirstSnuffer" ({ cls := "FirstSnuffer", name := "round", desc := "(II)I" } : Jvm.MethodName) ({ cls := "FirstSnuffer", name := "round", desc := "(II)I" } : Jvm.MethodName)) ∈ lw_all := lw_g (lw_at lw_m6 188 rfl) rfl
theorem q1555 : (Jvm.Cond.code ({ cls := "FirstSnuffer", name := "round", desc := "(II)I" } : Jvm.MethodName) prog_1_method_40_code (4 : Nat) (Option.some Jvm.ClassFile.FieldType.int)) ∈ lw_all := lw_g (lw_at lw_m6 189 rfl) rfl
theorem q1556 : (Jvm.Cond.methodLink "FirstSnuffer" (322 : Nat) ({ cls := "FirstSnuffer", name := "orders", desc := "(III)V" } : Jvm.MethodName)) ∈ lw_all := lw_g (lw_at lw_m6 190 rfl) rfl
theorem q1557 : (Jvm.Cond.privateMethod ({ cls := "FirstSnuffer", name := "orders", desc := "(III)V" } : Jvm.MethodName)) ∈ lw_tbl := lw_at lw_m6 191 rfl
theorem q1558 : (Jvm.Cond.instanceMethod ({ cls := "FirstSnuffer", name := "orders", desc := "(III)V" } : Jvm.MethodName)) ∈ lw_all := lw_g (lw_at lw_m6 192 rfl) rfl
theorem q1559 : (Jvm.Cond.code ({ cls := "FirstSnuffer", name := "orders", desc := "(III)V" } : Jvm.MethodName) prog_1_method_39_code (5 : Nat) (Option.none : Option Jvm.ClassFile.FieldType)) ∈ lw_all := lw_g (lw_at lw_m6 193 rfl) rfl
theorem q1560 : (Jvm.Cond.methodLink "FirstSnuffer" (319 : Nat) ({ cls := "FirstSnuffer", name := "tries", desc := "(I)V" } : Jvm.MethodName)) ∈ lw_all := lw_g (lw_at lw_m6 194 rfl) rfl
theorem q1561 : (Jvm.Cond.privateMethod ({ cls := "FirstSnuffer", name := "tries", desc := "(I)V" } : Jvm.MethodName)) ∈ lw_tbl := lw_at lw_m6 195 rfl
theorem q1562 : (Jvm.Cond.instanceMethod ({ cls := "FirstSnuffer", name := "tries", desc := "(I)V" } : Jvm.MethodName)) ∈ lw_all := lw_g (lw_at lw_m6 196 rfl) rfl
theorem q1563 : (Jvm.Cond.code ({ cls := "FirstSnuffer", name := "tries", desc := "(I)V" } : Jvm.MethodName) prog_1_method_38_code (3 : Nat) (Option.none : Option Jvm.ClassFile.FieldType)) ∈ lw_all := lw_g (lw_at lw_m6 197 rfl) rfl
theorem q1564 : (Jvm.Cond.methodLink "FirstSnuffer" (313 : Nat) ({ cls := "FirstSnuffer", name := "reaches", desc := "(I)Z" } : Jvm.MethodName)) ∈ lw_all := lw_g (lw_at lw_m6 198 rfl) rfl
theorem q1565 : (Jvm.Cond.privateMethod ({ cls := "FirstSnuffer", name := "reaches", desc := "(I)Z" } : Jvm.MethodName)) ∈ lw_tbl := lw_at lw_m6 199 rfl
theorem q1566 : (Jvm.Cond.instanceMethod ({ cls := "FirstSnuffer", name := "reaches", desc := "(I)Z" } : Jvm.MethodName)) ∈ lw_all := lw_g (lw_at lw_m6 200 rfl) rfl
theorem q1567 : (Jvm.Cond.code ({ cls := "FirstSnuffer", name := "reaches", desc := "(I)Z" } : Jvm.MethodName) prog_1_method_37_code (4 : Nat) (Option.some Jvm.ClassFile.FieldType.boolean)) ∈ lw_all := lw_g (lw_at lw_m6 201 rfl) rfl
theorem q1568 : (Jvm.Cond.methodLink "FirstSnuffer" (307 : Nat) ({ cls := "FirstSnuffer", name := "goesOn", desc := "(I)Z" } : Jvm.MethodName)) ∈ lw_all := lw_g (lw_at lw_m6 202 rfl) rfl
theorem q1569 : (Jvm.Cond.privateMethod ({ cls := "FirstSnuffer", name := "goesOn", desc := "(I)Z" } : Jvm.MethodName)) ∈ lw_tbl := lw_at lw_m6 203 rfl
theorem q1570 : (Jvm.Cond.instanceMethod ({ cls := "FirstSnuffer", name := "goesOn", desc := "(I)Z" } : Jvm.MethodName)) ∈ lw_all := lw_g (lw_at lw_m6 204 rfl) rfl
theorem q1571 : (Jvm.Cond.code ({ cls := "FirstSnuffer", name := "goesOn", desc := "(I)Z" } : Jvm.MethodName) prog_1_method_36_code (2 : Nat) (Option.some Jvm.ClassFile.FieldType.boolean)) ∈ lw_all := lw_g (lw_at lw_m6 205 rfl) rfl
theorem q1572 : (Jvm.Cond.methodLink "FirstSnuffer" (310 : Nat) ({ cls := "FirstSnuffer$State", name := "putsOut", desc := "(I)I" } : Jvm.MethodName)) ∈ lw_all := lw_g (lw_at lw_m6 206 rfl) rfl
theorem q1578 : (Jvm.Cond.instanceMethod ({ cls := "FirstSnuffer", name := "least", desc := "()I" } : Jvm.MethodName)) ∈ lw_all := lw_g (lw_at lw_m6 212 rfl) rfl
theorem q1579 : (Jvm.Cond.selects "FirstSnuffer" ({ cls := "FirstSnuffer", name := "least", desc := "()I" } : Jvm.MethodName) ({ cls := "FirstSnuffer", name := "least", desc := "()I" } : Jvm.MethodName)) ∈ lw_all := lw_g (lw_at lw_m6 213 rfl) rfl
theorem q1580 : (Jvm.Cond.code ({ cls := "FirstSnuffer", name := "least", desc := "()I" } : Jvm.MethodName) prog_1_method_41_code (6 : Nat) (Option.some Jvm.ClassFile.FieldType.int)) ∈ lw_all := lw_g (lw_at lw_m6 214 rfl) rfl
theorem q1582 : (Jvm.Cond.instanceMethod ({ cls := "FirstSnuffer", name := "keep", desc := "(II)I" } : Jvm.MethodName)) ∈ lw_all := lw_g (lw_at lw_m6 216 rfl) rfl
theorem q1583 : (Jvm.Cond.selects "FirstSnuffer" ({ cls := "FirstSnuffer", name := "keep", desc := "(II)I" } : Jvm.MethodName) ({ cls := "FirstSnuffer", name := "keep", desc := "(II)I" } : Jvm.MethodName)) ∈ lw_all := lw_g (lw_at lw_m6 217 rfl) rfl
theorem q1584 : (Jvm.Cond.code ({ cls := "FirstSnuffer", name := "keep", desc := "(II)I" } : Jvm.MethodName) prog_1_method_44_code (4 : Nat) (Option.some Jvm.ClassFile.FieldType.int)) ∈ lw_all := lw_g (lw_at lw_m6 218 rfl) rfl
theorem q1585 : (Jvm.Cond.methodLink "FirstSnuffer" (326 : Nat) ({ cls := "FirstSnuffer", name := "leadsOn", desc := "(II)Z" } : Jvm.MethodName)) ∈ lw_all := lw_g (lw_at lw_m6 219 rfl) rfl
theorem q1586 : (Jvm.Cond.privateMethod ({ cls := "FirstSnuffer", name := "leadsOn", desc := "(II)Z" } : Jvm.MethodName)) ∈ lw_tbl := lw_at lw_m6 220 rfl
theorem q1587 : (Jvm.Cond.instanceMethod ({ cls := "FirstSnuffer", name := "leadsOn", desc := "(II)Z" } : Jvm.MethodName)) ∈ lw_all := lw_g (lw_at lw_m6 221 rfl) rfl
theorem q1588 : (Jvm.Cond.code ({ cls := "FirstSnuffer", name := "leadsOn", desc := "(II)Z" } : Jvm.MethodName) prog_1_method_42_code (7 : Nat) (Option.some Jvm.ClassFile.FieldType.boolean)) ∈ lw_all := lw_g (lw_at lw_m6 222 rfl) rfl
theorem q1589 : (Jvm.Cond.methodLink "FirstSnuffer" (329 : Nat) ({ cls := "FirstSnuffer", name := "uses", desc := "(II)V" } : Jvm.MethodName)) ∈ lw_all := lw_g (lw_at lw_m6 223 rfl) rfl
theorem q1590 : (Jvm.Cond.privateMethod ({ cls := "FirstSnuffer", name := "uses", desc := "(II)V" } : Jvm.MethodName)) ∈ lw_tbl := lw_at lw_m6 224 rfl
theorem q1591 : (Jvm.Cond.instanceMethod ({ cls := "FirstSnuffer", name := "uses", desc := "(II)V" } : Jvm.MethodName)) ∈ lw_all := lw_g (lw_at lw_m6 225 rfl) rfl
theorem q1592 : (Jvm.Cond.code ({ cls := "FirstSnuffer", name := "uses", desc := "(II)V" } : Jvm.MethodName) prog_1_method_43_code (5 : Nat) (Option.none : Option Jvm.ClassFile.FieldType)) ∈ lw_all := lw_g (lw_at lw_m6 226 rfl) rfl
theorem q1594 : (Jvm.Cond.instanceMethod ({ cls := "FirstSnuffer", name := "rings", desc := "()I" } : Jvm.MethodName)) ∈ lw_all := lw_g (lw_at lw_m6 228 rfl) rfl
theorem q1595 : (Jvm.Cond.selects "FirstSnuffer" ({ cls := "FirstSnuffer", name := "rings", desc := "()I" } : Jvm.MethodName) ({ cls := "FirstSnuffer", name := "rings", desc := "()I" } : Jvm.MethodName)) ∈ lw_all := lw_g (lw_at lw_m6 229 rfl) rfl
theorem q1596 : (Jvm.Cond.code ({ cls := "FirstSnuffer", name := "rings", desc := "()I" } : Jvm.MethodName) prog_1_method_45_code (4 : Nat) (Option.some Jvm.ClassFile.FieldType.int)) ∈ lw_all := lw_g (lw_at lw_m6 230 rfl) rfl
theorem q1598 : (Jvm.Cond.instanceMethod ({ cls := "FirstSnuffer", name := "lightings", desc := "(I)I" } : Jvm.MethodName)) ∈ lw_all := lw_g (lw_at lw_m6 232 rfl) rfl
theorem q1599 : (Jvm.Cond.selects "FirstSnuffer" ({ cls := "FirstSnuffer", name := "lightings", desc := "(I)I" } : Jvm.MethodName) ({ cls := "FirstSnuffer", name := "lightings", desc := "(I)I" } : Jvm.MethodName)) ∈ lw_all := lw_g (lw_at lw_m6 233 rfl) rfl
theorem q1600 : (Jvm.Cond.code ({ cls := "FirstSnuffer", name := "lightings", desc := "(I)I" } : Jvm.MethodName) prog_1_method_46_code (6 : Nat) (Option.some Jvm.ClassFile.FieldType.int)) ∈ lw_all := lw_g (lw_at lw_m6 234 rfl) rfl
theorem q1601 : (Jvm.Cond.methodLink "FirstSnuffer" (333 : Nat) ({ cls := "FirstSnuffer$State", name := "mayBeLit", desc := "(II)Z" } : Jvm.MethodName)) ∈ lw_all := lw_g (lw_at lw_m6 235 rfl) rfl
theorem q1610 : (Jvm.Cond.instanceMethod ({ cls := "FirstSnuffer", name := "odds", desc := "(I)I" } : Jvm.MethodName)) ∈ lw_all := lw_g (lw_at lw_m7 4 rfl) rfl
theorem q1611 : (Jvm.Cond.selects "FirstSnuffer" ({ cls := "FirstSnuffer", name := "odds", desc := "(I)I" } : Jvm.MethodName) ({ cls := "FirstSnuffer", name := "odds", desc := "(I)I" } : Jvm.MethodName)) ∈ lw_all := lw_g (lw_at lw_m7 5 rfl) rfl
theorem q1612 : (Jvm.Cond.code ({ cls := "FirstSnuffer", name := "odds", desc := "(I)I" } : Jvm.MethodName) prog_1_method_47_code (4 : Nat) (Option.some Jvm.ClassFile.FieldType.int)) ∈ lw_all := lw_g (lw_at lw_m7 6 rfl) rfl
theorem q1613 : (Jvm.Cond.methodLink "FirstSnuffer" (339 : Nat) ({ cls := "FirstSnuffer$State", name := "blows", desc := "(I)V" } : Jvm.MethodName)) ∈ lw_all := lw_g (lw_at lw_m7 7 rfl) rfl
theorem q1619 : (Jvm.Cond.instanceMethod ({ cls := "FirstSnuffer", name := "see", desc := "()I" } : Jvm.MethodName)) ∈ lw_all := lw_g (lw_at lw_m7 13 rfl) rfl
theorem q1620 : (Jvm.Cond.selects "FirstSnuffer" ({ cls := "FirstSnuffer", name := "see", desc := "()I" } : Jvm.MethodName) ({ cls := "FirstSnuffer", name := "see", desc := "()I" } : Jvm.MethodName)) ∈ lw_all := lw_g (lw_at lw_m7 14 rfl) rfl
theorem q1621 : (Jvm.Cond.code ({ cls := "FirstSnuffer", name := "see", desc := "()I" } : Jvm.MethodName) prog_1_method_49_code (4 : Nat) (Option.some Jvm.ClassFile.FieldType.int)) ∈ lw_all := lw_g (lw_at lw_m7 15 rfl) rfl
theorem q1622 : (Jvm.Cond.methodLink "FirstSnuffer" (342 : Nat) ({ cls := "FirstSnuffer", name := "byteAt", desc := "(I)I" } : Jvm.MethodName)) ∈ lw_all := lw_g (lw_at lw_m7 16 rfl) rfl
theorem q1623 : (Jvm.Cond.privateMethod ({ cls := "FirstSnuffer", name := "byteAt", desc := "(I)I" } : Jvm.MethodName)) ∈ lw_tbl := lw_at lw_m7 17 rfl
theorem q1624 : (Jvm.Cond.instanceMethod ({ cls := "FirstSnuffer", name := "byteAt", desc := "(I)I" } : Jvm.MethodName)) ∈ lw_all := lw_g (lw_at lw_m7 18 rfl) rfl
theorem q1625 : (Jvm.Cond.code ({ cls := "FirstSnuffer", name := "byteAt", desc := "(I)I" } : Jvm.MethodName) prog_1_method_48_code (2 : Nat) (Option.some Jvm.ClassFile.FieldType.int)) ∈ lw_all := lw_g (lw_at lw_m7 19 rfl) rfl
theorem q1627 : (Jvm.Cond.instanceMethod ({ cls := "FirstSnuffer", name := "heats", desc := "(I)I" } : Jvm.MethodName)) ∈ lw_all := lw_g (lw_at lw_m7 21 rfl) rfl
theorem q1628 : (Jvm.Cond.selects "FirstSnuffer" ({ cls := "FirstSnuffer", name := "heats", desc := "(I)I" } : Jvm.MethodName) ({ cls := "FirstSnuffer", name := "heats", desc := "(I)I" } : Jvm.MethodName)) ∈ lw_all := lw_g (lw_at lw_m7 22 rfl) rfl
theorem q1629 : (Jvm.Cond.code ({ cls := "FirstSnuffer", name := "heats", desc := "(I)I" } : Jvm.MethodName) prog_1_method_51_code (4 : Nat) (Option.some Jvm.ClassFile.FieldType.int)) ∈ lw_all := lw_g (lw_at lw_m7 23 rfl) rfl
theorem q1630 : (Jvm.Cond.methodLink "FirstSnuffer" (348 : Nat) ({ cls := "FirstSnuffer", name := "canBe", desc := "(II)Z" } : Jvm.MethodName)) ∈ lw_all := lw_g (lw_at lw_m7 24 rfl) rfl
theorem q1631 : (Jvm.Cond.privateMethod ({ cls := "FirstSnuffer", name := "canBe", desc := "(II)Z" } : Jvm.MethodName)) ∈ lw_tbl := lw_at lw_m7 25 rfl
theorem q1632 : (Jvm.Cond.instanceMethod ({ cls := "FirstSnuffer", name := "canBe", desc := "(II)Z" } : Jvm.MethodName)) ∈ lw_all := lw_g (lw_at lw_m7 26 rfl) rfl
theorem q1633 : (Jvm.Cond.code ({ cls := "FirstSnuffer", name := "canBe", desc := "(II)Z" } : Jvm.MethodName) prog_1_method_50_code (6 : Nat) (Option.some Jvm.ClassFile.FieldType.boolean)) ∈ lw_all := lw_g (lw_at lw_m7 27 rfl) rfl
theorem q1635 : (Jvm.Cond.instanceMethod ({ cls := "FirstSnuffer", name := "tells", desc := "(II)I" } : Jvm.MethodName)) ∈ lw_all := lw_g (lw_at lw_m7 29 rfl) rfl
theorem q1636 : (Jvm.Cond.selects "FirstSnuffer" ({ cls := "FirstSnuffer", name := "tells", desc := "(II)I" } : Jvm.MethodName) ({ cls := "FirstSnuffer", name := "tells", desc := "(II)I" } : Jvm.MethodName)) ∈ lw_all := lw_g (lw_at lw_m7 30 rfl) rfl
theorem q1637 : (Jvm.Cond.code ({ cls := "FirstSnuffer", name := "tells", desc := "(II)I" } : Jvm.MethodName) prog_1_method_53_code (9 : Nat) (Option.some Jvm.ClassFile.FieldType.int)) ∈ lw_all := lw_g (lw_at lw_m7 31 rfl) rfl
theorem q1638 : (Jvm.Cond.methodLink "FirstSnuffer" (353 : Nat) ({ cls := "FirstSnuffer", name := "heats", desc := "(I)I" } : Jvm.MethodName)) ∈ lw_all := lw_g (lw_at lw_m7 32 rfl) rfl
theorem q1639 : (Jvm.Cond.methodLink "FirstSnuffer" (356 : Nat) ({ cls := "FirstSnuffer", name := "mostBy", desc := "(III)I" } : Jvm.MethodName)) ∈ lw_all := lw_g (lw_at lw_m7 33 rfl) rfl
theorem q1640 : (Jvm.Cond.privateMethod ({ cls := "FirstSnuffer", name := "mostBy", desc := "(III)I" } : Jvm.MethodName)) ∈ lw_tbl := lw_at lw_m7 34 rfl
theorem q1641 : (Jvm.Cond.instanceMethod ({ cls := "FirstSnuffer", name := "mostBy", desc := "(III)I" } : Jvm.MethodName)) ∈ lw_all := lw_g (lw_at lw_m7 35 rfl) rfl
theorem q1642 : (Jvm.Cond.code ({ cls := "FirstSnuffer", name := "mostBy", desc := "(III)I" } : Jvm.MethodName) prog_1_method_52_code (8 : Nat) (Option.some Jvm.ClassFile.FieldType.int)) ∈ lw_all := lw_g (lw_at lw_m7 36 rfl) rfl
theorem q1643 : (Jvm.Cond.methodLink "FirstSnuffer" (351 : Nat) ({ cls := "java/lang/Math", name := "max", desc := "(II)I" } : Jvm.MethodName)) ∈ lw_all := lw_g (lw_at lw_m7 37 rfl) rfl
theorem q1645 : (Jvm.Cond.instanceMethod ({ cls := "FirstSnuffer", name := "undo", desc := "()Z" } : Jvm.MethodName)) ∈ lw_all := lw_g (lw_at lw_m7 39 rfl) rfl
theorem q1646 : (Jvm.Cond.selects "FirstSnuffer" ({ cls := "FirstSnuffer", name := "undo", desc := "()Z" } : Jvm.MethodName) ({ cls := "FirstSnuffer", name := "undo", desc := "()Z" } : Jvm.MethodName)) ∈ lw_all := lw_g (lw_at lw_m7 40 rfl) rfl
theorem q1647 : (Jvm.Cond.code ({ cls := "FirstSnuffer", name := "undo", desc := "()Z" } : Jvm.MethodName) prog_1_method_55_code (1 : Nat) (Option.some Jvm.ClassFile.FieldType.boolean)) ∈ lw_all := lw_g (lw_at lw_m7 41 rfl) rfl
theorem q1649 : (Jvm.Cond.instanceMethod ({ cls := "FirstSnuffer", name := "go", desc := "(I)I" } : Jvm.MethodName)) ∈ lw_all := lw_g (lw_at lw_m7 43 rfl) rfl
theorem q1650 : (Jvm.Cond.selects "FirstSnuffer" ({ cls := "FirstSnuffer", name := "go", desc := "(I)I" } : Jvm.MethodName) ({ cls := "FirstSnuffer", name := "go", desc := "(I)I" } : Jvm.MethodName)) ∈ lw_all := lw_g (lw_at lw_m7 44 rfl) rfl
theorem q1651 : (Jvm.Cond.code ({ cls := "FirstSnuffer", name := "go", desc := "(I)I" } : Jvm.MethodName) prog_1_method_56_code (3 : Nat) (Option.some Jvm.ClassFile.FieldType.int)) ∈ lw_all := lw_g (lw_at lw_m7 45 rfl) rfl
theorem q1652 : (Jvm.Cond.methodLink "FirstSnuffer" (360 : Nat) ({ cls := "FirstSnuffer", name := "remembers", desc := "()V" } : Jvm.MethodName)) ∈ lw_all := lw_g (lw_at lw_m7 46 rfl) rfl
theorem q1653 : (Jvm.Cond.privateMethod ({ cls := "FirstSnuffer", name := "remembers", desc := "()V" } : Jvm.MethodName)) ∈ lw_tbl := lw_at lw_m7 47 rfl
theorem q1654 : (Jvm.Cond.instanceMethod ({ cls := "FirstSnuffer", name := "remembers", desc := "()V" } : Jvm.MethodName)) ∈ lw_all := lw_g (lw_at lw_m7 48 rfl) rfl
theorem q1655 : (Jvm.Cond.code ({ cls := "FirstSnuffer", name := "remembers", desc := "()V" } : Jvm.MethodName) prog_1_method_54_code (3 : Nat) (Option.none : Option Jvm.ClassFile.FieldType)) ∈ lw_all := lw_g (lw_at lw_m7 49 rfl) rfl
theorem q1657 : (Jvm.Cond.instanceMethod ({ cls := "FirstSnuffer", name := "snuff", desc := "(I)I" } : Jvm.MethodName)) ∈ lw_all := lw_g (lw_at lw_m7 51 rfl) rfl
theorem q1658 : (Jvm.Cond.selects "FirstSnuffer" ({ cls := "FirstSnuffer", name := "snuff", desc := "(I)I" } : Jvm.MethodName) ({ cls := "FirstSnuffer", name := "snuff", desc := "(I)I" } : Jvm.MethodName)) ∈ lw_all := lw_g (lw_at lw_m7 52 rfl) rfl
theorem q1659 : (Jvm.Cond.code ({ cls := "FirstSnuffer", name := "snuff", desc := "(I)I" } : Jvm.MethodName) prog_1_method_58_code (2 : Nat) (Option.some Jvm.ClassFile.FieldType.int)) ∈ lw_all := lw_g (lw_at lw_m7 53 rfl) rfl
theorem q1660 : (Jvm.Cond.methodLink "FirstSnuffer" (363 : Nat) ({ cls := "FirstSnuffer", name := "isHere", desc := "(I)Z" } : Jvm.MethodName)) ∈ lw_all := lw_g (lw_at lw_m7 54 rfl) rfl
theorem q1661 : (Jvm.Cond.privateMethod ({ cls := "FirstSnuffer", name := "isHere", desc := "(I)Z" } : Jvm.MethodName)) ∈ lw_tbl := lw_at lw_m7 55 rfl
theorem q1662 : (Jvm.Cond.instanceMethod ({ cls := "FirstSnuffer", name := "isHere", desc := "(I)Z" } : Jvm.MethodName)) ∈ lw_all := lw_g (lw_at lw_m7 56 rfl) rfl
theorem q1663 : (Jvm.Cond.code ({ cls := "FirstSnuffer", name := "isHere", desc := "(I)Z" } : Jvm.MethodName) prog_1_method_57_code (2 : Nat) (Option.some Jvm.ClassFile.FieldType.boolean)) ∈ lw_all := lw_g (lw_at lw_m7 57 rfl) rfl
theorem q1665 : (Jvm.Cond.instanceMethod ({ cls := "FirstSnuffer", name := "light", desc := "(I)Z" } : Jvm.MethodName)) ∈ lw_all := lw_g (lw_at lw_m7 59 rfl) rfl
theorem q1666 : (Jvm.Cond.selects "FirstSnuffer" ({ cls := "FirstSnuffer", name := "light", desc := "(I)Z" } : Jvm.MethodName) ({ cls := "FirstSnuffer", name := "light", desc := "(I)Z" } : Jvm.MethodName)) ∈ lw_all := lw_g (lw_at lw_m7 60 rfl) rfl
theorem q1667 : (Jvm.Cond.code ({ cls := "FirstSnuffer", name := "light", desc := "(I)Z" } : Jvm.MethodName) prog_1_method_59_code (2 : Nat) (Option.some Jvm.ClassFile.FieldType.boolean)) ∈ lw_all := lw_g (lw_at lw_m7 61 rfl) rfl
theorem q1669 : (Jvm.Cond.instanceMethod ({ cls := "FirstSnuffer", name := "bind", desc := "(II)Z" } : Jvm.MethodName)) ∈ lw_all := lw_g (lw_at lw_m7 63 rfl) rfl
theorem q1670 : (Jvm.Cond.selects "FirstSnuffer" ({ cls := "FirstSnuffer", name := "bind", desc := "(II)Z" } : Jvm.MethodName) ({ cls := "FirstSnuffer", name := "bind", desc := "(II)Z" } : Jvm.MethodName)) ∈ lw_all := lw_g (lw_at lw_m7 64 rfl) rfl
theorem q1671 : (Jvm.Cond.code ({ cls := "FirstSnuffer", name := "bind", desc := "(II)Z" } : Jvm.MethodName) prog_1_method_60_code (3 : Nat) (Option.some Jvm.ClassFile.FieldType.boolean)) ∈ lw_all := lw_g (lw_at lw_m7 65 rfl) rfl
theorem q1673 : (Jvm.Cond.instanceMethod ({ cls := "FirstSnuffer", name := "hours", desc := "(I)I" } : Jvm.MethodName)) ∈ lw_all := lw_g (lw_at lw_m7 67 rfl) rfl
theorem q1674 : (Jvm.Cond.selects "FirstSnuffer" ({ cls := "FirstSnuffer", name := "hours", desc := "(I)I" } : Jvm.MethodName) ({ cls := "FirstSnuffer", name := "hours", desc := "(I)I" } : Jvm.MethodName)) ∈ lw_all := lw_g (lw_at lw_m7 68 rfl) rfl
theorem q1675 : (Jvm.Cond.code ({ cls := "FirstSnuffer", name := "hours", desc := "(I)I" } : Jvm.MethodName) prog_1_method_61_code (2 : Nat) (Option.some Jvm.ClassFile.FieldType.int)) ∈ lw_all := lw_g (lw_at lw_m7 69 rfl) rfl
theorem q1677 : (Jvm.Cond.instanceMethod ({ cls := "FirstSnuffer", name := "chance", desc := "(I)I" } : Jvm.MethodName)) ∈ lw_all := lw_g (lw_at lw_m7 71 rfl) rfl
theorem q1678 : (Jvm.Cond.selects "FirstSnuffer" ({ cls := "FirstSnuffer", name := "chance", desc := "(I)I" } : Jvm.MethodName) ({ cls := "FirstSnuffer", name := "chance", desc := "(I)I" } : Jvm.MethodName)) ∈ lw_all := lw_g (lw_at lw_m7 72 rfl) rfl
theorem q1679 : (Jvm.Cond.code ({ cls := "FirstSnuffer", name := "chance", desc := "(I)I" } : Jvm.MethodName) prog_1_method_63_code (4 : Nat) (Option.some Jvm.ClassFile.FieldType.int)) ∈ lw_all := lw_g (lw_at lw_m7 73 rfl) rfl
theorem q1680 : (Jvm.Cond.methodLink "FirstSnuffer" (374 : Nat) ({ cls := "FirstSnuffer", name := "draw", desc := "(I)I" } : Jvm.MethodName)) ∈ lw_all := lw_g (lw_at lw_m7 74 rfl) rfl
theorem q1681 : (Jvm.Cond.privateMethod ({ cls := "FirstSnuffer", name := "draw", desc := "(I)I" } : Jvm.MethodName)) ∈ lw_tbl := lw_at lw_m7 75 rfl
theorem q1682 : (Jvm.Cond.instanceMethod ({ cls := "FirstSnuffer", name := "draw", desc := "(I)I" } : Jvm.MethodName)) ∈ lw_all := lw_g (lw_at lw_m7 76 rfl) rfl
theorem q1683 : (Jvm.Cond.code ({ cls := "FirstSnuffer", name := "draw", desc := "(I)I" } : Jvm.MethodName) prog_1_method_62_code (2 : Nat) (Option.some Jvm.ClassFile.FieldType.int)) ∈ lw_all := lw_g (lw_at lw_m7 77 rfl) rfl
theorem q1684 : (Jvm.Cond.constantLong "FirstSnuffer" (366 : Nat) (1103515245 : Int64)) ∈ lw_all := lw_g (lw_at lw_m7 78 rfl) rfl
theorem q1685 : (Jvm.Cond.constantLong "FirstSnuffer" (368 : Nat) (12345 : Int64)) ∈ lw_all := lw_g (lw_at lw_m7 79 rfl) rfl
theorem q1686 : (Jvm.Cond.constantLong "FirstSnuffer" (370 : Nat) (2147483648 : Int64)) ∈ lw_all := lw_g (lw_at lw_m7 80 rfl) rfl
theorem q1687 : (Jvm.Cond.constantLong "FirstSnuffer" (372 : Nat) (64 : Int64)) ∈ lw_all := lw_g (lw_at lw_m7 81 rfl) rfl
theorem q1689 : (Jvm.Cond.instanceMethod ({ cls := "FirstSnuffer", name := "seed", desc := "(I)Z" } : Jvm.MethodName)) ∈ lw_all := lw_g (lw_at lw_m7 83 rfl) rfl
theorem q1690 : (Jvm.Cond.selects "FirstSnuffer" ({ cls := "FirstSnuffer", name := "seed", desc := "(I)Z" } : Jvm.MethodName) ({ cls := "FirstSnuffer", name := "seed", desc := "(I)Z" } : Jvm.MethodName)) ∈ lw_all := lw_g (lw_at lw_m7 84 rfl) rfl
theorem q1691 : (Jvm.Cond.code ({ cls := "FirstSnuffer", name := "seed", desc := "(I)Z" } : Jvm.MethodName) prog_1_method_64_code (2 : Nat) (Option.some Jvm.ClassFile.FieldType.boolean)) ∈ lw_all := lw_g (lw_at lw_m7 85 rfl) rfl
theorem q1693 : (Jvm.Cond.instanceMethod ({ cls := "FirstSnuffer", name := "ask", desc := "()J" } : Jvm.MethodName)) ∈ lw_all := lw_g (lw_at lw_m7 87 rfl) rfl
theorem q1694 : (Jvm.Cond.selects "FirstSnuffer" ({ cls := "FirstSnuffer", name := "ask", desc := "()J" } : Jvm.MethodName) ({ cls := "FirstSnuffer", name := "ask", desc := "()J" } : Jvm.MethodName)) ∈ lw_all := lw_g (lw_at lw_m7 88 rfl) rfl
theorem q1695 : (Jvm.Cond.codeWith ({ cls := "FirstSnuffer", name := "ask", desc := "()J" } : Jvm.MethodName) prog_1_method_66_code (4 : Nat) (Option.some Jvm.ClassFile.FieldType.long) [((15 : Nat), (24 : Nat), (27 : Nat), (144 : Nat))]) ∈ lw_all := lw_g (lw_at lw_m7 89 rfl) rfl
theorem q1696 : (Jvm.Cond.methodLink "FirstSnuffer" (382 : Nat) ({ cls := "FirstSnuffer$Reader", name := "question", desc := "(I)LFirstSnuffer$Question;" } : Jvm.MethodName)) ∈ lw_all := lw_g (lw_at lw_m7 90 rfl) rfl
theorem q1701 : (Jvm.Cond.laysStatic "FirstSnuffer" "TOLD_OF" "[Ljava/lang/String;") ∈ lw_tbl := lw_at lw_m7 95 rfl
theorem q1725 : (Jvm.Cond.constantLong "FirstSnuffer" (386 : Nat) (-1000000000000000 : Int64)) ∈ lw_all := lw_g (lw_at lw_m7 119 rfl) rfl
theorem q1726 : (Jvm.Cond.methodLink "FirstSnuffer" (392 : Nat) ({ cls := "FirstSnuffer$Question", name := "meets", desc := "(ILFirstSnuffer$Moment;)V" } : Jvm.MethodName)) ∈ lw_all := lw_g (lw_at lw_m7 120 rfl) rfl
theorem q1734 : (Jvm.Cond.methodLink "FirstSnuffer" (398 : Nat) ({ cls := "FirstSnuffer$Question", name := "answer", desc := "()J" } : Jvm.MethodName)) ∈ lw_all := lw_g (lw_at lw_m7 128 rfl) rfl
theorem q1739 : (Jvm.Cond.instanceMethod ({ cls := "FirstSnuffer", name := "image", desc := "()I" } : Jvm.MethodName)) ∈ lw_all := lw_g (lw_at lw_m7 133 rfl) rfl
theorem q1740 : (Jvm.Cond.selects "FirstSnuffer" ({ cls := "FirstSnuffer", name := "image", desc := "()I" } : Jvm.MethodName) ({ cls := "FirstSnuffer", name := "image", desc := "()I" } : Jvm.MethodName)) ∈ lw_all := lw_g (lw_at lw_m7 134 rfl) rfl
theorem q1741 : (Jvm.Cond.code ({ cls := "FirstSnuffer", name := "image", desc := "()I" } : Jvm.MethodName) prog_1_method_69_code (2 : Nat) (Option.some Jvm.ClassFile.FieldType.int)) ∈ lw_all := lw_g (lw_at lw_m7 135 rfl) rfl
theorem q1742 : (Jvm.Cond.methodLink "FirstSnuffer" (405 : Nat) ({ cls := "FirstSnuffer", name := "writes", desc := "(I)V" } : Jvm.MethodName)) ∈ lw_all := lw_g (lw_at lw_m7 136 rfl) rfl
theorem q1743 : (Jvm.Cond.privateMethod ({ cls := "FirstSnuffer", name := "writes", desc := "(I)V" } : Jvm.MethodName)) ∈ lw_tbl := lw_at lw_m7 137 rfl
theorem q1744 : (Jvm.Cond.instanceMethod ({ cls := "FirstSnuffer", name := "writes", desc := "(I)V" } : Jvm.MethodName)) ∈ lw_all := lw_g (lw_at lw_m7 138 rfl) rfl
theorem q1745 : (Jvm.Cond.code ({ cls := "FirstSnuffer", name := "writes", desc := "(I)V" } : Jvm.MethodName) prog_1_method_67_code (2 : Nat) (Option.none : Option Jvm.ClassFile.FieldType)) ∈ lw_all := lw_g (lw_at lw_m7 139 rfl) rfl
theorem q1746 : (Jvm.Cond.methodLink "FirstSnuffer" (408 : Nat) ({ cls := "FirstSnuffer", name := "check", desc := "([BI)I" } : Jvm.MethodName)) ∈ lw_all := lw_g (lw_at lw_m7 140 rfl) rfl
theorem q1747 : (Jvm.Cond.static ({ cls := "FirstSnuffer", name := "check", desc := "([BI)I" } : Jvm.MethodName)) ∈ lw_all := lw_g (lw_at lw_m7 141 rfl) rfl
theorem q1748 : (Jvm.Cond.code ({ cls := "FirstSnuffer", name := "check", desc := "([BI)I" } : Jvm.MethodName) prog_1_method_68_code (4 : Nat) (Option.some Jvm.ClassFile.FieldType.int)) ∈ lw_all := lw_g (lw_at lw_m7 142 rfl) rfl
theorem q1750 : (Jvm.Cond.instanceMethod ({ cls := "FirstSnuffer", name := "octet", desc := "(I)I" } : Jvm.MethodName)) ∈ lw_all := lw_g (lw_at lw_m7 144 rfl) rfl
theorem q1751 : (Jvm.Cond.selects "FirstSnuffer" ({ cls := "FirstSnuffer", name := "octet", desc := "(I)I" } : Jvm.MethodName) ({ cls := "FirstSnuffer", name := "octet", desc := "(I)I" } : Jvm.MethodName)) ∈ lw_all := lw_g (lw_at lw_m7 145 rfl) rfl
theorem q1752 : (Jvm.Cond.code ({ cls := "FirstSnuffer", name := "octet", desc := "(I)I" } : Jvm.MethodName) prog_1_method_70_code (2 : Nat) (Option.some Jvm.ClassFile.FieldType.int)) ∈ lw_all := lw_g (lw_at lw_m7 146 rfl) rfl
theorem q1754 : (Jvm.Cond.instanceMethod ({ cls := "FirstSnuffer", name := "on", desc := "()Z" } : Jvm.MethodName)) ∈ lw_all := lw_g (lw_at lw_m7 148 rfl) rfl
theorem q1755 : (Jvm.Cond.selects "FirstSnuffer" ({ cls := "FirstSnuffer", name := "on", desc := "()Z" } : Jvm.MethodName) ({ cls := "FirstSnuffer", name := "on", desc := "()Z" } : Jvm.MethodName)) ∈ lw_all := lw_g (lw_at lw_m7 149 rfl) rfl
theorem q1756 : (Jvm.Cond.code ({ cls := "FirstSnuffer", name := "on", desc := "()Z" } : Jvm.MethodName) prog_1_method_72_code (1 : Nat) (Option.some Jvm.ClassFile.FieldType.boolean)) ∈ lw_all := lw_g (lw_at lw_m7 150 rfl) rfl
theorem q1757 : (Jvm.Cond.methodLink "FirstSnuffer" (412 : Nat) ({ cls := "FirstSnuffer", name := "comesOn", desc := "(I)Z" } : Jvm.MethodName)) ∈ lw_all := lw_g (lw_at lw_m7 151 rfl) rfl
theorem q1758 : (Jvm.Cond.privateMethod ({ cls := "FirstSnuffer", name := "comesOn", desc := "(I)Z" } : Jvm.MethodName)) ∈ lw_tbl := lw_at lw_m7 152 rfl
theorem q1759 : (Jvm.Cond.instanceMethod ({ cls := "FirstSnuffer", name := "comesOn", desc := "(I)Z" } : Jvm.MethodName)) ∈ lw_all := lw_g (lw_at lw_m7 153 rfl) rfl
theorem q1760 : (Jvm.Cond.code ({ cls := "FirstSnuffer", name := "comesOn", desc := "(I)Z" } : Jvm.MethodName) prog_1_method_71_code (6 : Nat) (Option.some Jvm.ClassFile.FieldType.boolean)) ∈ lw_all := lw_g (lw_at lw_m7 154 rfl) rfl
theorem q1762 : (Jvm.Cond.instanceMethod ({ cls := "FirstSnuffer", name := "status", desc := "(I)I" } : Jvm.MethodName)) ∈ lw_all := lw_g (lw_at lw_m7 156 rfl) rfl
theorem q1763 : (Jvm.Cond.selects "FirstSnuffer" ({ cls := "FirstSnuffer", name := "status", desc := "(I)I" } : Jvm.MethodName) ({ cls := "FirstSnuffer", name := "status", desc := "(I)I" } : Jvm.MethodName)) ∈ lw_all := lw_g (lw_at lw_m7 157 rfl) rfl
theorem q1764 : (Jvm.Cond.code ({ cls := "FirstSnuffer", name := "status", desc := "(I)I" } : Jvm.MethodName) prog_1_method_73_code (2 : Nat) (Option.some Jvm.ClassFile.FieldType.int)) ∈ lw_all := lw_g (lw_at lw_m7 158 rfl) rfl
theorem q2674 : (Jvm.Cond.castable "FirstSnuffer" "java/lang/Object") ∈ lw_tbl := lw_at lw_m11 108 rfl
theorem q2712 : (Jvm.Cond.stringRef "FirstSnuffer" (449 : Nat) "hall") ∈ lw_tbl := lw_at lw_m11 146 rfl
theorem q2713 : (Jvm.Cond.stringRef "FirstSnuffer" (450 : Nat) "door") ∈ lw_tbl := lw_at lw_m11 147 rfl
theorem q2714 : (Jvm.Cond.stringRef "FirstSnuffer" (452 : Nat) "to") ∈ lw_tbl := lw_at lw_m11 148 rfl
theorem q2715 : (Jvm.Cond.stringRef "FirstSnuffer" (430 : Nat) "steps") ∈ lw_tbl := lw_at lw_m11 149 rfl
theorem q2716 : (Jvm.Cond.stringRef "FirstSnuffer" (453 : Nat) "thing") ∈ lw_tbl := lw_at lw_m11 150 rfl
theorem q2717 : (Jvm.Cond.stringRef "FirstSnuffer" (455 : Nat) "in") ∈ lw_tbl := lw_at lw_m11 151 rfl
theorem q2718 : (Jvm.Cond.stringRef "FirstSnuffer" (457 : Nat) "burns") ∈ lw_tbl := lw_at lw_m11 152 rfl
theorem q2719 : (Jvm.Cond.stringRef "FirstSnuffer" (416 : Nat) "heat") ∈ lw_tbl := lw_at lw_m11 153 rfl
theorem q2720 : (Jvm.Cond.stringRef "FirstSnuffer" (459 : Nat) "tie") ∈ lw_tbl := lw_at lw_m11 154 rfl
theorem q2721 : (Jvm.Cond.stringRef "FirstSnuffer" (461 : Nat) "starts") ∈ lw_tbl := lw_at lw_m11 155 rfl
theorem q2722 : (Jvm.Cond.stringRef "FirstSnuffer" (463 : Nat) "minds") ∈ lw_tbl := lw_at lw_m11 156 rfl
theorem q2723 : (Jvm.Cond.stringRef "FirstSnuffer" (465 : Nat) "draught") ∈ lw_tbl := lw_at lw_m11 157 rfl
theorem q2724 : (Jvm.Cond.stringRef "FirstSnuffer" (415 : Nat) "strength") ∈ lw_tbl := lw_at lw_m11 158 rfl
theorem q2725 : (Jvm.Cond.stringRef "FirstSnuffer" (417 : Nat) "near") ∈ lw_tbl := lw_at lw_m11 159 rfl
theorem q2726 : (Jvm.Cond.stringRef "FirstSnuffer" (419 : Nat) "hour") ∈ lw_tbl := lw_at lw_m11 160 rfl
theorem q2727 : (Jvm.Cond.stringRef "FirstSnuffer" (420 : Nat) "smell") ∈ lw_tbl := lw_at lw_m11 161 rfl
theorem q2728 : (Jvm.Cond.stringRef "FirstSnuffer" (421 : Nat) "number") ∈ lw_tbl := lw_at lw_m11 162 rfl
theorem q2729 : (Jvm.Cond.stringRef "FirstSnuffer" (423 : Nat) "place") ∈ lw_tbl := lw_at lw_m11 163 rfl
theorem q2730 : (Jvm.Cond.stringRef "FirstSnuffer" (428 : Nat) "ends") ∈ lw_tbl := lw_at lw_m11 164 rfl
theorem q2731 : (Jvm.Cond.stringRef "FirstSnuffer" (466 : Nat) "or") ∈ lw_tbl := lw_at lw_m11 165 rfl
theorem q2732 : (Jvm.Cond.stringRef "FirstSnuffer" (468 : Nat) "and") ∈ lw_tbl := lw_at lw_m11 166 rfl
theorem q2733 : (Jvm.Cond.stringRef "FirstSnuffer" (470 : Nat) "not") ∈ lw_tbl := lw_at lw_m11 167 rfl
theorem q2734 : (Jvm.Cond.stringRef "FirstSnuffer" (472 : Nat) "all") ∈ lw_tbl := lw_at lw_m11 168 rfl
theorem q2735 : (Jvm.Cond.stringRef "FirstSnuffer" (473 : Nat) "min") ∈ lw_tbl := lw_at lw_m11 169 rfl
theorem q2736 : (Jvm.Cond.stringRef "FirstSnuffer" (474 : Nat) "max") ∈ lw_tbl := lw_at lw_m11 170 rfl
theorem q2738 : (Jvm.Cond.stringRef "FirstSnuffer" (434 : Nat) "first") ∈ lw_tbl := lw_at lw_m11 172 rfl
theorem q2739 : (Jvm.Cond.stringRef "FirstSnuffer" (436 : Nat) "last") ∈ lw_tbl := lw_at lw_m11 173 rfl
theorem q2740 : (Jvm.Cond.stringRef "FirstSnuffer" (438 : Nat) "often") ∈ lw_tbl := lw_at lw_m11 174 rfl
theorem q2741 : (Jvm.Cond.stringRef "FirstSnuffer" (440 : Nat) "total") ∈ lw_tbl := lw_at lw_m11 175 rfl
theorem q2742 : (Jvm.Cond.stringRef "FirstSnuffer" (442 : Nat) "most") ∈ lw_tbl := lw_at lw_m11 176 rfl
theorem q2743 : (Jvm.Cond.stringRef "FirstSnuffer" (444 : Nat) "least") ∈ lw_tbl := lw_at lw_m11 177 rfl
theorem in_X0 : ∀ w ∈ wsX00, w ∈ lw_all := lw_in wsX00 [530, 532, 534, 536, 538, 540, 542, 544, 546, 548, 550, 552, 554, 556, 558, 560, 562, 564, 566, 568, 570, 572, 574, 576, 578, 580, 582, 584] (by decide +kernel) (by decide +kernel)
/-! FirstSnuffer$Household -/
set_option maxRecDepth 100000
def RX1 : String := "FirstSnuffer$Household"
def TX1 : u_T := fun k => match k with
  | 0 => ("FirstSnuffer$Household", "statements", "I", false)
  | 1 => ("FirstSnuffer$Household", "start", "I", false)
  | 2 => ("FirstSnuffer$Household", "draught", "I", false)
  | 3 => ("FirstSnuffer$Household", "halls", "Ljava/util/List;", true)
  | 4 => ("FirstSnuffer$Household", "doors", "Ljava/util/List;", true)
  | 5 => ("FirstSnuffer$Household", "things", "Ljava/util/List;", true)
  | 6 => ("FirstSnuffer$Household", "ties", "Ljava/util/List;", true)
  | 7 => ("FirstSnuffer$Household", "burns", "LFirstSnuffer$Value;", false)
  | _ => ("FirstSnuffer$Household", "minds", "LFirstSnuffer$Test;", false)
def tyX1 : Nat → FieldType := fun k => match k with
  | 0 => .int
  | 1 => .int
  | 2 => .int
  | 3 => .object "java/util/List"
  | 4 => .object "java/util/List"
  | 5 => .object "java/util/List"
  | 6 => .object "java/util/List"
  | 7 => .object "FirstSnuffer$Value"
  | _ => .object "FirstSnuffer$Test"
abbrev wsX10 : List Cond := u_ws RX1 TX1 9
theorem nmX1 : ∀ a, a < 9 → ∀ b, b < 9 → a ≠ b → (TX1 a).2.1 ≠ (TX1 b).2.1 := by decide +kernel
theorem tyX1_ok : ∀ k, k < 9 → parseFieldDescriptor (TX1 k).2.2.1 = some (tyX1 k) := by decide +kernel
abbrev cX1_init : ByteArray := prog_10_method_1_code
def yX1_init : MethodName := ⟨RX1, "<init>", "()V"⟩
def dkwX1_init_2 : List UInt8 := [183, 0, 11, 181, 0, 26, 177]
abbrev dktX1_init_2 : List UInt8 := dkwX1_init_2 ++ []
def dkwX1_init_1 : List UInt8 := [183, 0, 11, 181, 0, 20, 42, 187, 0, 9, 89, 7, 183, 0, 11, 181, 0, 23, 42, 187, 0, 9, 89, 7]
abbrev dktX1_init_1 : List UInt8 := dkwX1_init_1 ++ dktX1_init_2
def dkwX1_init_0 : List UInt8 := [42, 183, 0, 3, 42, 187, 0, 9, 89, 7, 183, 0, 11, 181, 0, 14, 42, 187, 0, 9, 89, 7]
abbrev dktX1_init_0 : List UInt8 := dkwX1_init_0 ++ dktX1_init_1
theorem dksX1_init_0 : cX1_init.data.toList.drop 0 = dktX1_init_0 := by decide +kernel
theorem dksX1_init_1 : cX1_init.data.toList.drop 22 = dktX1_init_1 := dk_seg dksX1_init_0 22 rfl rfl
theorem dksX1_init_2 : cX1_init.data.toList.drop 46 = dktX1_init_2 := dk_seg dksX1_init_1 24 rfl rfl
theorem dX1_init_0 : decode cX1_init 0 = .ok (.aload_n 0, 1) := dk_42 (dk_at dksX1_init_0 0 rfl rfl)
theorem dX1_init_1 : decode cX1_init 1 = .ok (.invokespecial 3, 3) := dk_183 0 3 (dk_at dksX1_init_0 1 rfl rfl)
theorem dX1_init_4 : decode cX1_init 4 = .ok (.aload_n 0, 1) := dk_42 (dk_at dksX1_init_0 4 rfl rfl)
theorem dX1_init_5 : decode cX1_init 5 = .ok (.new 9, 3) := dk_187 0 9 (dk_at dksX1_init_0 5 rfl rfl)
theorem dX1_init_8 : decode cX1_init 8 = .ok (.dup, 1) := dk_89 (dk_at dksX1_init_0 8 rfl rfl)
theorem dX1_init_9 : decode cX1_init 9 = .ok (.iconst 4, 1) := dk_7 (dk_at dksX1_init_0 9 rfl rfl)
theorem dX1_init_10 : decode cX1_init 10 = .ok (.invokespecial 11, 3) := dk_183 0 11 (dk_at dksX1_init_0 10 rfl rfl)
theorem dX1_init_13 : decode cX1_init 13 = .ok (.putfield 14, 3) := dk_181 0 14 (dk_at dksX1_init_0 13 rfl rfl)
theorem dX1_init_16 : decode cX1_init 16 = .ok (.aload_n 0, 1) := dk_42 (dk_at dksX1_init_0 16 rfl rfl)
theorem dX1_init_17 : decode cX1_init 17 = .ok (.new 9, 3) := dk_187 0 9 (dk_at dksX1_init_0 17 rfl rfl)
theorem dX1_init_20 : decode cX1_init 20 = .ok (.dup, 1) := dk_89 (dk_at dksX1_init_0 20 rfl rfl)
theorem dX1_init_21 : decode cX1_init 21 = .ok (.iconst 4, 1) := dk_7 (dk_at dksX1_init_0 21 rfl rfl)
theorem dX1_init_22 : decode cX1_init 22 = .ok (.invokespecial 11, 3) := dk_183 0 11 (dk_at dksX1_init_1 0 rfl rfl)
theorem dX1_init_25 : decode cX1_init 25 = .ok (.putfield 20, 3) := dk_181 0 20 (dk_at dksX1_init_1 3 rfl rfl)
theorem dX1_init_28 : decode cX1_init 28 = .ok (.aload_n 0, 1) := dk_42 (dk_at dksX1_init_1 6 rfl rfl)
theorem dX1_init_29 : decode cX1_init 29 = .ok (.new 9, 3) := dk_187 0 9 (dk_at dksX1_init_1 7 rfl rfl)
theorem dX1_init_32 : decode cX1_init 32 = .ok (.dup, 1) := dk_89 (dk_at dksX1_init_1 10 rfl rfl)
theorem dX1_init_33 : decode cX1_init 33 = .ok (.iconst 4, 1) := dk_7 (dk_at dksX1_init_1 11 rfl rfl)
theorem dX1_init_34 : decode cX1_init 34 = .ok (.invokespecial 11, 3) := dk_183 0 11 (dk_at dksX1_init_1 12 rfl rfl)
theorem dX1_init_37 : decode cX1_init 37 = .ok (.putfield 23, 3) := dk_181 0 23 (dk_at dksX1_init_1 15 rfl rfl)
theorem dX1_init_40 : decode cX1_init 40 = .ok (.aload_n 0, 1) := dk_42 (dk_at dksX1_init_1 18 rfl rfl)
theorem dX1_init_41 : decode cX1_init 41 = .ok (.new 9, 3) := dk_187 0 9 (dk_at dksX1_init_1 19 rfl rfl)
theorem dX1_init_44 : decode cX1_init 44 = .ok (.dup, 1) := dk_89 (dk_at dksX1_init_1 22 rfl rfl)
theorem dX1_init_45 : decode cX1_init 45 = .ok (.iconst 4, 1) := dk_7 (dk_at dksX1_init_1 23 rfl rfl)
theorem dX1_init_46 : decode cX1_init 46 = .ok (.invokespecial 11, 3) := dk_183 0 11 (dk_at dksX1_init_2 0 rfl rfl)
theorem dX1_init_49 : decode cX1_init 49 = .ok (.putfield 26, 3) := dk_181 0 26 (dk_at dksX1_init_2 3 rfl rfl)
theorem dX1_init_52 : decode cX1_init 52 = .ok (.return_, 1) := dk_177 (dk_at dksX1_init_2 6 rfl rfl)
abbrev cX1_isNamed : ByteArray := prog_10_method_2_code
def yX1_isNamed : MethodName := ⟨RX1, "isNamed", "(Ljava/lang/String;)Z"⟩
def dkwX1_isNamed_1 : List UInt8 := [4, 167, 0, 4, 3, 172]
abbrev dktX1_isNamed_1 : List UInt8 := dkwX1_isNamed_1 ++ []
def dkwX1_isNamed_0 : List UInt8 := [42, 180, 0, 14, 43, 184, 0, 29, 2, 160, 0, 15, 42, 180, 0, 23, 43, 184, 0, 29, 2, 159, 0, 7]
abbrev dktX1_isNamed_0 : List UInt8 := dkwX1_isNamed_0 ++ dktX1_isNamed_1
theorem dksX1_isNamed_0 : cX1_isNamed.data.toList.drop 0 = dktX1_isNamed_0 := by decide +kernel
theorem dksX1_isNamed_1 : cX1_isNamed.data.toList.drop 24 = dktX1_isNamed_1 := dk_seg dksX1_isNamed_0 24 rfl rfl
theorem dX1_isNamed_0 : decode cX1_isNamed 0 = .ok (.aload_n 0, 1) := dk_42 (dk_at dksX1_isNamed_0 0 rfl rfl)
theorem dX1_isNamed_1 : decode cX1_isNamed 1 = .ok (.getfield 14, 3) := dk_180 0 14 (dk_at dksX1_isNamed_0 1 rfl rfl)
theorem dX1_isNamed_4 : decode cX1_isNamed 4 = .ok (.aload_n 1, 1) := dk_43 (dk_at dksX1_isNamed_0 4 rfl rfl)
theorem dX1_isNamed_5 : decode cX1_isNamed 5 = .ok (.invokestatic 29, 3) := dk_184 0 29 (dk_at dksX1_isNamed_0 5 rfl rfl)
theorem dX1_isNamed_8 : decode cX1_isNamed 8 = .ok (.iconst (-1), 1) := dk_2 (dk_at dksX1_isNamed_0 8 rfl rfl)
theorem dX1_isNamed_9 : decode cX1_isNamed 9 = .ok (.if_icmp .ne 15, 3) := dk_160 0 15 (dk_at dksX1_isNamed_0 9 rfl rfl)
theorem dX1_isNamed_12 : decode cX1_isNamed 12 = .ok (.aload_n 0, 1) := dk_42 (dk_at dksX1_isNamed_0 12 rfl rfl)
theorem dX1_isNamed_13 : decode cX1_isNamed 13 = .ok (.getfield 23, 3) := dk_180 0 23 (dk_at dksX1_isNamed_0 13 rfl rfl)
theorem dX1_isNamed_16 : decode cX1_isNamed 16 = .ok (.aload_n 1, 1) := dk_43 (dk_at dksX1_isNamed_0 16 rfl rfl)
theorem dX1_isNamed_17 : decode cX1_isNamed 17 = .ok (.invokestatic 29, 3) := dk_184 0 29 (dk_at dksX1_isNamed_0 17 rfl rfl)
theorem dX1_isNamed_20 : decode cX1_isNamed 20 = .ok (.iconst (-1), 1) := dk_2 (dk_at dksX1_isNamed_0 20 rfl rfl)
theorem dX1_isNamed_21 : decode cX1_isNamed 21 = .ok (.if_icmp .eq 7, 3) := dk_159 0 7 (dk_at dksX1_isNamed_0 21 rfl rfl)
theorem dX1_isNamed_24 : decode cX1_isNamed 24 = .ok (.iconst 1, 1) := dk_4 (dk_at dksX1_isNamed_1 0 rfl rfl)
theorem dX1_isNamed_25 : decode cX1_isNamed 25 = .ok (.goto 4, 3) := dk_167 0 4 (dk_at dksX1_isNamed_1 1 rfl rfl)
theorem dX1_isNamed_28 : decode cX1_isNamed 28 = .ok (.iconst 0, 1) := dk_3 (dk_at dksX1_isNamed_1 4 rfl rfl)
theorem dX1_isNamed_29 : decode cX1_isNamed 29 = .ok (.ireturn, 1) := dk_172 (dk_at dksX1_isNamed_1 5 rfl rfl)
abbrev cX1_isTied : ByteArray := prog_10_method_3_code
def yX1_isTied : MethodName := ⟨RX1, "isTied", "(II)Z"⟩
def dkwX1_isTied_3 : List UInt8 := [172]
abbrev dktX1_isTied_3 : List UInt8 := dkwX1_isTied_3 ++ []
def dkwX1_isTied_2 : List UInt8 := [185, 0, 41, 2, 0, 192, 0, 45, 180, 0, 51, 28, 160, 0, 5, 4, 172, 132, 3, 1, 167, 255, 198, 3]
abbrev dktX1_isTied_2 : List UInt8 := dkwX1_isTied_2 ++ dktX1_isTied_3
def dkwX1_isTied_1 : List UInt8 := [185, 0, 41, 2, 0, 192, 0, 45, 180, 0, 47, 27, 160, 0, 25, 42, 180, 0, 26, 29]
abbrev dktX1_isTied_1 : List UInt8 := dkwX1_isTied_1 ++ dktX1_isTied_2
def dkwX1_isTied_0 : List UInt8 := [3, 62, 29, 42, 180, 0, 26, 185, 0, 35, 1, 0, 162, 0, 51, 42, 180, 0, 26, 29]
abbrev dktX1_isTied_0 : List UInt8 := dkwX1_isTied_0 ++ dktX1_isTied_1
theorem dksX1_isTied_0 : cX1_isTied.data.toList.drop 0 = dktX1_isTied_0 := by decide +kernel
theorem dksX1_isTied_1 : cX1_isTied.data.toList.drop 20 = dktX1_isTied_1 := dk_seg dksX1_isTied_0 20 rfl rfl
theorem dksX1_isTied_2 : cX1_isTied.data.toList.drop 40 = dktX1_isTied_2 := dk_seg dksX1_isTied_1 20 rfl rfl
theorem dksX1_isTied_3 : cX1_isTied.data.toList.drop 64 = dktX1_isTied_3 := dk_seg dksX1_isTied_2 24 rfl rfl
theorem dX1_isTied_0 : decode cX1_isTied 0 = .ok (.iconst 0, 1) := dk_3 (dk_at dksX1_isTied_0 0 rfl rfl)
theorem dX1_isTied_1 : decode cX1_isTied 1 = .ok (.istore_n 3, 1) := dk_62 (dk_at dksX1_isTied_0 1 rfl rfl)
theorem dX1_isTied_2 : decode cX1_isTied 2 = .ok (.iload_n 3, 1) := dk_29 (dk_at dksX1_isTied_0 2 rfl rfl)
theorem dX1_isTied_3 : decode cX1_isTied 3 = .ok (.aload_n 0, 1) := dk_42 (dk_at dksX1_isTied_0 3 rfl rfl)
theorem dX1_isTied_4 : decode cX1_isTied 4 = .ok (.getfield 26, 3) := dk_180 0 26 (dk_at dksX1_isTied_0 4 rfl rfl)
theorem dX1_isTied_7 : decode cX1_isTied 7 = .ok (.invokeinterface 35 1, 5) := by decide +kernel
theorem dX1_isTied_12 : decode cX1_isTied 12 = .ok (.if_icmp .ge 51, 3) := dk_162 0 51 (dk_at dksX1_isTied_0 12 rfl rfl)
theorem dX1_isTied_15 : decode cX1_isTied 15 = .ok (.aload_n 0, 1) := dk_42 (dk_at dksX1_isTied_0 15 rfl rfl)
theorem dX1_isTied_16 : decode cX1_isTied 16 = .ok (.getfield 26, 3) := dk_180 0 26 (dk_at dksX1_isTied_0 16 rfl rfl)
theorem dX1_isTied_19 : decode cX1_isTied 19 = .ok (.iload_n 3, 1) := dk_29 (dk_at dksX1_isTied_0 19 rfl rfl)
theorem dX1_isTied_20 : decode cX1_isTied 20 = .ok (.invokeinterface 41 2, 5) := by decide +kernel
theorem dX1_isTied_25 : decode cX1_isTied 25 = .ok (.checkcast 45, 3) := dk_192 0 45 (dk_at dksX1_isTied_1 5 rfl rfl)
theorem dX1_isTied_28 : decode cX1_isTied 28 = .ok (.getfield 47, 3) := dk_180 0 47 (dk_at dksX1_isTied_1 8 rfl rfl)
theorem dX1_isTied_31 : decode cX1_isTied 31 = .ok (.iload_n 1, 1) := dk_27 (dk_at dksX1_isTied_1 11 rfl rfl)
theorem dX1_isTied_32 : decode cX1_isTied 32 = .ok (.if_icmp .ne 25, 3) := dk_160 0 25 (dk_at dksX1_isTied_1 12 rfl rfl)
theorem dX1_isTied_35 : decode cX1_isTied 35 = .ok (.aload_n 0, 1) := dk_42 (dk_at dksX1_isTied_1 15 rfl rfl)
theorem dX1_isTied_36 : decode cX1_isTied 36 = .ok (.getfield 26, 3) := dk_180 0 26 (dk_at dksX1_isTied_1 16 rfl rfl)
theorem dX1_isTied_39 : decode cX1_isTied 39 = .ok (.iload_n 3, 1) := dk_29 (dk_at dksX1_isTied_1 19 rfl rfl)
theorem dX1_isTied_40 : decode cX1_isTied 40 = .ok (.invokeinterface 41 2, 5) := by decide +kernel
theorem dX1_isTied_45 : decode cX1_isTied 45 = .ok (.checkcast 45, 3) := dk_192 0 45 (dk_at dksX1_isTied_2 5 rfl rfl)
theorem dX1_isTied_48 : decode cX1_isTied 48 = .ok (.getfield 51, 3) := dk_180 0 51 (dk_at dksX1_isTied_2 8 rfl rfl)
theorem dX1_isTied_51 : decode cX1_isTied 51 = .ok (.iload_n 2, 1) := dk_28 (dk_at dksX1_isTied_2 11 rfl rfl)
theorem dX1_isTied_52 : decode cX1_isTied 52 = .ok (.if_icmp .ne 5, 3) := dk_160 0 5 (dk_at dksX1_isTied_2 12 rfl rfl)
theorem dX1_isTied_55 : decode cX1_isTied 55 = .ok (.iconst 1, 1) := dk_4 (dk_at dksX1_isTied_2 15 rfl rfl)
theorem dX1_isTied_56 : decode cX1_isTied 56 = .ok (.ireturn, 1) := dk_172 (dk_at dksX1_isTied_2 16 rfl rfl)
theorem dX1_isTied_57 : decode cX1_isTied 57 = .ok (.iinc 3 1, 3) := dk_132 3 1 (dk_at dksX1_isTied_2 17 rfl rfl)
theorem dX1_isTied_60 : decode cX1_isTied 60 = .ok (.goto (-58), 3) := dk_167 255 198 (dk_at dksX1_isTied_2 20 rfl rfl)
theorem dX1_isTied_63 : decode cX1_isTied 63 = .ok (.iconst 0, 1) := dk_3 (dk_at dksX1_isTied_2 23 rfl rfl)
theorem dX1_isTied_64 : decode cX1_isTied 64 = .ok (.ireturn, 1) := dk_172 (dk_at dksX1_isTied_3 0 rfl rfl)
theorem q168 : (Jvm.Cond.initialized "FirstSnuffer$Household") ∈ lw_all := lw_g (lw_at lw_m1 2 rfl) rfl
theorem q217 : (Jvm.Cond.instantiable "FirstSnuffer$Household" (9 : Nat)) ∈ lw_all := lw_g (lw_at lw_m1 51 rfl) rfl
theorem q219 : (Jvm.Cond.instanceMethod ({ cls := "FirstSnuffer$Household", name := "<init>", desc := "()V" } : Jvm.MethodName)) ∈ lw_all := lw_g (lw_at lw_m1 53 rfl) rfl
theorem q220 : (Jvm.Cond.code ({ cls := "FirstSnuffer$Household", name := "<init>", desc := "()V" } : Jvm.MethodName) prog_10_method_1_code (1 : Nat) (Option.none : Option Jvm.ClassFile.FieldType)) ∈ lw_all := lw_g (lw_at lw_m1 54 rfl) rfl
theorem q221 : (Jvm.Cond.methodLink "FirstSnuffer$Household" (3 : Nat) ({ cls := "java/lang/Object", name := "<init>", desc := "()V" } : Jvm.MethodName)) ∈ lw_all := lw_g (lw_at lw_m1 55 rfl) rfl
theorem q222 : (Jvm.Cond.classLink "FirstSnuffer$Household" (9 : Nat) "java/util/ArrayList") ∈ lw_all := lw_g (lw_at lw_m1 56 rfl) rfl
theorem q224 : (Jvm.Cond.methodLink "FirstSnuffer$Household" (11 : Nat) ({ cls := "java/util/ArrayList", name := "<init>", desc := "(I)V" } : Jvm.MethodName)) ∈ lw_all := lw_g (lw_at lw_m1 58 rfl) rfl
theorem q256 : (Jvm.Cond.fieldLink "FirstSnuffer$Household" (14 : Nat) "FirstSnuffer$Household" "halls" "Ljava/util/List;") ∈ lw_all := lw_g (lw_at lw_m1 90 rfl) rfl
theorem q259 : (Jvm.Cond.fieldLink "FirstSnuffer$Household" (20 : Nat) "FirstSnuffer$Household" "doors" "Ljava/util/List;") ∈ lw_all := lw_g (lw_at lw_m1 93 rfl) rfl
theorem q262 : (Jvm.Cond.fieldLink "FirstSnuffer$Household" (23 : Nat) "FirstSnuffer$Household" "things" "Ljava/util/List;") ∈ lw_all := lw_g (lw_at lw_m1 96 rfl) rfl
theorem q265 : (Jvm.Cond.fieldLink "FirstSnuffer$Household" (26 : Nat) "FirstSnuffer$Household" "ties" "Ljava/util/List;") ∈ lw_all := lw_g (lw_at lw_m1 99 rfl) rfl
theorem q272 : (Jvm.Cond.lays "FirstSnuffer$Household" "FirstSnuffer$Household" "statements" "I") ∈ lw_all := lw_g (lw_at lw_m1 106 rfl) rfl
theorem q273 : (Jvm.Cond.soleField "FirstSnuffer$Household" "statements") ∈ lw_all := lw_g (lw_at lw_m1 107 rfl) rfl
theorem q274 : (Jvm.Cond.lays "FirstSnuffer$Household" "FirstSnuffer$Household" "start" "I") ∈ lw_all := lw_g (lw_at lw_m1 108 rfl) rfl
theorem q275 : (Jvm.Cond.soleField "FirstSnuffer$Household" "start") ∈ lw_all := lw_g (lw_at lw_m1 109 rfl) rfl
theorem q276 : (Jvm.Cond.lays "FirstSnuffer$Household" "FirstSnuffer$Household" "draught" "I") ∈ lw_all := lw_g (lw_at lw_m1 110 rfl) rfl
theorem q277 : (Jvm.Cond.soleField "FirstSnuffer$Household" "draught") ∈ lw_all := lw_g (lw_at lw_m1 111 rfl) rfl
theorem q278 : (Jvm.Cond.laysFinal "FirstSnuffer$Household" "FirstSnuffer$Household" "halls" "Ljava/util/List;") ∈ lw_all := lw_g (lw_at lw_m1 112 rfl) rfl
theorem q279 : (Jvm.Cond.soleField "FirstSnuffer$Household" "halls") ∈ lw_all := lw_g (lw_at lw_m1 113 rfl) rfl
theorem q280 : (Jvm.Cond.laysFinal "FirstSnuffer$Household" "FirstSnuffer$Household" "doors" "Ljava/util/List;") ∈ lw_all := lw_g (lw_at lw_m1 114 rfl) rfl
theorem q281 : (Jvm.Cond.soleField "FirstSnuffer$Household" "doors") ∈ lw_all := lw_g (lw_at lw_m1 115 rfl) rfl
theorem q282 : (Jvm.Cond.laysFinal "FirstSnuffer$Household" "FirstSnuffer$Household" "things" "Ljava/util/List;") ∈ lw_all := lw_g (lw_at lw_m1 116 rfl) rfl
theorem q283 : (Jvm.Cond.soleField "FirstSnuffer$Household" "things") ∈ lw_all := lw_g (lw_at lw_m1 117 rfl) rfl
theorem q284 : (Jvm.Cond.laysFinal "FirstSnuffer$Household" "FirstSnuffer$Household" "ties" "Ljava/util/List;") ∈ lw_all := lw_g (lw_at lw_m1 118 rfl) rfl
theorem q285 : (Jvm.Cond.soleField "FirstSnuffer$Household" "ties") ∈ lw_all := lw_g (lw_at lw_m1 119 rfl) rfl
theorem q286 : (Jvm.Cond.lays "FirstSnuffer$Household" "FirstSnuffer$Household" "burns" "LFirstSnuffer$Value;") ∈ lw_all := lw_g (lw_at lw_m1 120 rfl) rfl
theorem q287 : (Jvm.Cond.soleField "FirstSnuffer$Household" "burns") ∈ lw_all := lw_g (lw_at lw_m1 121 rfl) rfl
theorem q288 : (Jvm.Cond.lays "FirstSnuffer$Household" "FirstSnuffer$Household" "minds" "LFirstSnuffer$Test;") ∈ lw_all := lw_g (lw_at lw_m1 122 rfl) rfl
theorem q289 : (Jvm.Cond.soleField "FirstSnuffer$Household" "minds") ∈ lw_all := lw_g (lw_at lw_m1 123 rfl) rfl
theorem q290 : (Jvm.Cond.superclass "FirstSnuffer$Household" "java/lang/Object") ∈ lw_all := lw_g (lw_at lw_m1 124 rfl) rfl
theorem q823 : (Jvm.Cond.instanceMethod ({ cls := "FirstSnuffer$Household", name := "isNamed", desc := "(Ljava/lang/String;)Z" } : Jvm.MethodName)) ∈ lw_all := lw_g (lw_at lw_m3 177 rfl) rfl
theorem q824 : (Jvm.Cond.selects "FirstSnuffer$Household" ({ cls := "FirstSnuffer$Household", name := "isNamed", desc := "(Ljava/lang/String;)Z" } : Jvm.MethodName) ({ cls := "FirstSnuffer$Household", name := "isNamed", desc := "(Ljava/lang/String;)Z" } : Jvm.MethodName)) ∈ lw_all := lw_g (lw_at lw_m3 178 rfl) rfl
theorem q825 : (Jvm.Cond.code ({ cls := "FirstSnuffer$Household", name := "isNamed", desc := "(Ljava/lang/String;)Z" } : Jvm.MethodName) prog_10_method_2_code (2 : Nat) (Option.some Jvm.ClassFile.FieldType.boolean)) ∈ lw_all := lw_g (lw_at lw_m3 179 rfl) rfl
theorem q826 : (Jvm.Cond.methodLink "FirstSnuffer$Household" (29 : Nat) ({ cls := "FirstSnuffer$Named", name := "find", desc := "(Ljava/util/List;Ljava/lang/String;)I" } : Jvm.MethodName)) ∈ lw_all := lw_g (lw_at lw_m3 180 rfl) rfl
theorem q891 : (Jvm.Cond.selects "FirstSnuffer$Household" ({ cls := "java/lang/Object", name := "getClass", desc := "()Ljava/lang/Class;" } : Jvm.MethodName) ({ cls := "java/lang/Object", name := "getClass", desc := "()Ljava/lang/Class;" } : Jvm.MethodName)) ∈ lw_all := lw_g (lw_at lw_m4 5 rfl) rfl
theorem q997 : (Jvm.Cond.instanceMethod ({ cls := "FirstSnuffer$Household", name := "isTied", desc := "(II)Z" } : Jvm.MethodName)) ∈ lw_all := lw_g (lw_at lw_m4 111 rfl) rfl
theorem q998 : (Jvm.Cond.selects "FirstSnuffer$Household" ({ cls := "FirstSnuffer$Household", name := "isTied", desc := "(II)Z" } : Jvm.MethodName) ({ cls := "FirstSnuffer$Household", name := "isTied", desc := "(II)Z" } : Jvm.MethodName)) ∈ lw_all := lw_g (lw_at lw_m4 112 rfl) rfl
theorem q999 : (Jvm.Cond.code ({ cls := "FirstSnuffer$Household", name := "isTied", desc := "(II)Z" } : Jvm.MethodName) prog_10_method_3_code (4 : Nat) (Option.some Jvm.ClassFile.FieldType.boolean)) ∈ lw_all := lw_g (lw_at lw_m4 113 rfl) rfl
theorem q1000 : (Jvm.Cond.interfaceEntry "FirstSnuffer$Household" (35 : Nat)) ∈ lw_tbl := lw_at lw_m4 114 rfl
theorem q1001 : (Jvm.Cond.methodLink "FirstSnuffer$Household" (35 : Nat) ({ cls := "java/util/List", name := "size", desc := "()I" } : Jvm.MethodName)) ∈ lw_all := lw_g (lw_at lw_m4 115 rfl) rfl
theorem q1002 : (Jvm.Cond.interfaceEntry "FirstSnuffer$Household" (41 : Nat)) ∈ lw_tbl := lw_at lw_m4 116 rfl
theorem q1003 : (Jvm.Cond.methodLink "FirstSnuffer$Household" (41 : Nat) ({ cls := "java/util/List", name := "get", desc := "(I)Ljava/lang/Object;" } : Jvm.MethodName)) ∈ lw_all := lw_g (lw_at lw_m4 117 rfl) rfl
theorem q1004 : (Jvm.Cond.classLink "FirstSnuffer$Household" (45 : Nat) "FirstSnuffer$Tie") ∈ lw_all := lw_g (lw_at lw_m4 118 rfl) rfl
theorem q1012 : (Jvm.Cond.fieldLinkNest "FirstSnuffer$Household" (47 : Nat) "FirstSnuffer$Tie" "from" "I" "FirstSnuffer") ∈ lw_tbl := lw_at lw_m4 126 rfl
theorem q1016 : (Jvm.Cond.fieldLinkNest "FirstSnuffer$Household" (51 : Nat) "FirstSnuffer$Tie" "to" "I" "FirstSnuffer") ∈ lw_tbl := lw_at lw_m4 130 rfl
theorem q2675 : (Jvm.Cond.castable "FirstSnuffer$Household" "java/lang/Object") ∈ lw_tbl := lw_at lw_m11 109 rfl
theorem in_X1 : ∀ w ∈ wsX10, w ∈ lw_all := lw_in wsX10 [272, 274, 276, 278, 280, 282, 284, 286, 288] (by decide +kernel) (by decide +kernel)
/-! FirstSnuffer$Reader -/
set_option maxRecDepth 100000
def RX2 : String := "FirstSnuffer$Reader"
def TX2 : u_T := fun k => match k with
  | 0 => ("FirstSnuffer$Reader", "fault", "LFirstSnuffer$Fault;", true)
  | 1 => ("FirstSnuffer$Reader", "size", "I", false)
  | 2 => ("FirstSnuffer$Reader", "at", "I", false)
  | 3 => ("FirstSnuffer$Reader", "from", "I", false)
  | 4 => ("FirstSnuffer$Reader", "open", "I", false)
  | 5 => ("FirstSnuffer$Reader", "context", "I", false)
  | 6 => ("FirstSnuffer$Reader", "to", "LFirstSnuffer$Household;", false)
  | _ => ("FirstSnuffer$Reader", "this$0", "LFirstSnuffer;", true)
def tyX2 : Nat → FieldType := fun k => match k with
  | 0 => .object "FirstSnuffer$Fault"
  | 1 => .int
  | 2 => .int
  | 3 => .int
  | 4 => .int
  | 5 => .int
  | 6 => .object "FirstSnuffer$Household"
  | _ => .object "FirstSnuffer"
abbrev wsX20 : List Cond := u_ws RX2 TX2 8
theorem nmX2 : ∀ a, a < 8 → ∀ b, b < 8 → a ≠ b → (TX2 a).2.1 ≠ (TX2 b).2.1 := by decide +kernel
theorem tyX2_ok : ∀ k, k < 8 → parseFieldDescriptor (TX2 k).2.2.1 = some (tyX2 k) := by decide +kernel
abbrev cX2_init : ByteArray := prog_17_method_1_code
def yX2_init : MethodName := ⟨RX2, "<init>", "(LFirstSnuffer;)V"⟩
def dkwX2_init_0 : List UInt8 := [42, 43, 181, 0, 3, 42, 183, 0, 9, 42, 187, 0, 15, 89, 183, 0, 17, 181, 0, 18, 177]
abbrev dktX2_init_0 : List UInt8 := dkwX2_init_0 ++ []
theorem dksX2_init_0 : cX2_init.data.toList.drop 0 = dktX2_init_0 := by decide +kernel
theorem dX2_init_0 : decode cX2_init 0 = .ok (.aload_n 0, 1) := dk_42 (dk_at dksX2_init_0 0 rfl rfl)
theorem dX2_init_1 : decode cX2_init 1 = .ok (.aload_n 1, 1) := dk_43 (dk_at dksX2_init_0 1 rfl rfl)
theorem dX2_init_2 : decode cX2_init 2 = .ok (.putfield 3, 3) := dk_181 0 3 (dk_at dksX2_init_0 2 rfl rfl)
theorem dX2_init_5 : decode cX2_init 5 = .ok (.aload_n 0, 1) := dk_42 (dk_at dksX2_init_0 5 rfl rfl)
theorem dX2_init_6 : decode cX2_init 6 = .ok (.invokespecial 9, 3) := dk_183 0 9 (dk_at dksX2_init_0 6 rfl rfl)
theorem dX2_init_9 : decode cX2_init 9 = .ok (.aload_n 0, 1) := dk_42 (dk_at dksX2_init_0 9 rfl rfl)
theorem dX2_init_10 : decode cX2_init 10 = .ok (.new 15, 3) := dk_187 0 15 (dk_at dksX2_init_0 10 rfl rfl)
theorem dX2_init_13 : decode cX2_init 13 = .ok (.dup, 1) := dk_89 (dk_at dksX2_init_0 13 rfl rfl)
theorem dX2_init_14 : decode cX2_init 14 = .ok (.invokespecial 17, 3) := dk_183 0 17 (dk_at dksX2_init_0 14 rfl rfl)
theorem dX2_init_17 : decode cX2_init 17 = .ok (.putfield 18, 3) := dk_181 0 18 (dk_at dksX2_init_0 17 rfl rfl)
theorem dX2_init_20 : decode cX2_init 20 = .ok (.return_, 1) := dk_177 (dk_at dksX2_init_0 20 rfl rfl)
abbrev cX2_all : ByteArray := prog_17_method_16_code
def yX2_all : MethodName := ⟨RX2, "all", "(I)LFirstSnuffer$Household;"⟩
def dkwX2_all_4 : List UInt8 := [180, 0, 61, 182, 0, 133, 42, 16, 59, 182, 0, 137, 167, 255, 178, 42, 180, 0, 103, 176]
abbrev dktX2_all_4 : List UInt8 := dkwX2_all_4 ++ []
def dkwX2_all_3 : List UInt8 := [181, 0, 122, 42, 182, 0, 70, 77, 42, 44, 42, 180, 0, 61, 182, 0, 129, 154, 0, 12, 42, 44, 42]
abbrev dktX2_all_3 : List UInt8 := dkwX2_all_3 ++ dktX2_all_4
def dkwX2_all_2 : List UInt8 := [4, 167, 0, 4, 3, 42, 180, 0, 36, 182, 0, 125, 42, 180, 0, 103, 89, 180, 0, 122, 4, 96]
abbrev dktX2_all_2 : List UInt8 := dkwX2_all_2 ++ dktX2_all_3
def dkwX2_all_1 : List UInt8 := [181, 0, 119, 42, 182, 0, 43, 2, 159, 0, 76, 42, 42, 180, 0, 103, 180, 0, 122, 16, 60, 160, 0, 7]
abbrev dktX2_all_1 : List UInt8 := dkwX2_all_1 ++ dktX2_all_2
def dkwX2_all_0 : List UInt8 := [42, 187, 0, 108, 89, 183, 0, 118, 181, 0, 103, 42, 27, 181, 0, 29, 42, 3, 181, 0, 36, 42, 3]
abbrev dktX2_all_0 : List UInt8 := dkwX2_all_0 ++ dktX2_all_1
theorem dksX2_all_0 : cX2_all.data.toList.drop 0 = dktX2_all_0 := by decide +kernel
theorem dksX2_all_1 : cX2_all.data.toList.drop 23 = dktX2_all_1 := dk_seg dksX2_all_0 23 rfl rfl
theorem dksX2_all_2 : cX2_all.data.toList.drop 47 = dktX2_all_2 := dk_seg dksX2_all_1 24 rfl rfl
theorem dksX2_all_3 : cX2_all.data.toList.drop 69 = dktX2_all_3 := dk_seg dksX2_all_2 22 rfl rfl
theorem dksX2_all_4 : cX2_all.data.toList.drop 92 = dktX2_all_4 := dk_seg dksX2_all_3 23 rfl rfl
theorem dX2_all_0 : decode cX2_all 0 = .ok (.aload_n 0, 1) := dk_42 (dk_at dksX2_all_0 0 rfl rfl)
theorem dX2_all_1 : decode cX2_all 1 = .ok (.new 108, 3) := dk_187 0 108 (dk_at dksX2_all_0 1 rfl rfl)
theorem dX2_all_4 : decode cX2_all 4 = .ok (.dup, 1) := dk_89 (dk_at dksX2_all_0 4 rfl rfl)
theorem dX2_all_5 : decode cX2_all 5 = .ok (.invokespecial 118, 3) := dk_183 0 118 (dk_at dksX2_all_0 5 rfl rfl)
theorem dX2_all_8 : decode cX2_all 8 = .ok (.putfield 103, 3) := dk_181 0 103 (dk_at dksX2_all_0 8 rfl rfl)
theorem dX2_all_11 : decode cX2_all 11 = .ok (.aload_n 0, 1) := dk_42 (dk_at dksX2_all_0 11 rfl rfl)
theorem dX2_all_12 : decode cX2_all 12 = .ok (.iload_n 1, 1) := dk_27 (dk_at dksX2_all_0 12 rfl rfl)
theorem dX2_all_13 : decode cX2_all 13 = .ok (.putfield 29, 3) := dk_181 0 29 (dk_at dksX2_all_0 13 rfl rfl)
theorem dX2_all_16 : decode cX2_all 16 = .ok (.aload_n 0, 1) := dk_42 (dk_at dksX2_all_0 16 rfl rfl)
theorem dX2_all_17 : decode cX2_all 17 = .ok (.iconst 0, 1) := dk_3 (dk_at dksX2_all_0 17 rfl rfl)
theorem dX2_all_18 : decode cX2_all 18 = .ok (.putfield 36, 3) := dk_181 0 36 (dk_at dksX2_all_0 18 rfl rfl)
theorem dX2_all_21 : decode cX2_all 21 = .ok (.aload_n 0, 1) := dk_42 (dk_at dksX2_all_0 21 rfl rfl)
theorem dX2_all_22 : decode cX2_all 22 = .ok (.iconst 0, 1) := dk_3 (dk_at dksX2_all_0 22 rfl rfl)
theorem dX2_all_23 : decode cX2_all 23 = .ok (.putfield 119, 3) := dk_181 0 119 (dk_at dksX2_all_1 0 rfl rfl)
theorem dX2_all_26 : decode cX2_all 26 = .ok (.aload_n 0, 1) := dk_42 (dk_at dksX2_all_1 3 rfl rfl)
theorem dX2_all_27 : decode cX2_all 27 = .ok (.invokevirtual 43, 3) := dk_182 0 43 (dk_at dksX2_all_1 4 rfl rfl)
theorem dX2_all_30 : decode cX2_all 30 = .ok (.iconst (-1), 1) := dk_2 (dk_at dksX2_all_1 7 rfl rfl)
theorem dX2_all_31 : decode cX2_all 31 = .ok (.if_icmp .eq 76, 3) := dk_159 0 76 (dk_at dksX2_all_1 8 rfl rfl)
theorem dX2_all_34 : decode cX2_all 34 = .ok (.aload_n 0, 1) := dk_42 (dk_at dksX2_all_1 11 rfl rfl)
theorem dX2_all_35 : decode cX2_all 35 = .ok (.aload_n 0, 1) := dk_42 (dk_at dksX2_all_1 12 rfl rfl)
theorem dX2_all_36 : decode cX2_all 36 = .ok (.getfield 103, 3) := dk_180 0 103 (dk_at dksX2_all_1 13 rfl rfl)
theorem dX2_all_39 : decode cX2_all 39 = .ok (.getfield 122, 3) := dk_180 0 122 (dk_at dksX2_all_1 16 rfl rfl)
theorem dX2_all_42 : decode cX2_all 42 = .ok (.bipush 60, 2) := dk_16 60 (dk_at dksX2_all_1 19 rfl rfl)
theorem dX2_all_44 : decode cX2_all 44 = .ok (.if_icmp .ne 7, 3) := dk_160 0 7 (dk_at dksX2_all_1 21 rfl rfl)
theorem dX2_all_47 : decode cX2_all 47 = .ok (.iconst 1, 1) := dk_4 (dk_at dksX2_all_2 0 rfl rfl)
theorem dX2_all_48 : decode cX2_all 48 = .ok (.goto 4, 3) := dk_167 0 4 (dk_at dksX2_all_2 1 rfl rfl)
theorem dX2_all_51 : decode cX2_all 51 = .ok (.iconst 0, 1) := dk_3 (dk_at dksX2_all_2 4 rfl rfl)
theorem dX2_all_52 : decode cX2_all 52 = .ok (.aload_n 0, 1) := dk_42 (dk_at dksX2_all_2 5 rfl rfl)
theorem dX2_all_53 : decode cX2_all 53 = .ok (.getfield 36, 3) := dk_180 0 36 (dk_at dksX2_all_2 6 rfl rfl)
theorem dX2_all_56 : decode cX2_all 56 = .ok (.invokevirtual 125, 3) := dk_182 0 125 (dk_at dksX2_all_2 9 rfl rfl)
theorem dX2_all_59 : decode cX2_all 59 = .ok (.aload_n 0, 1) := dk_42 (dk_at dksX2_all_2 12 rfl rfl)
theorem dX2_all_60 : decode cX2_all 60 = .ok (.getfield 103, 3) := dk_180 0 103 (dk_at dksX2_all_2 13 rfl rfl)
theorem dX2_all_63 : decode cX2_all 63 = .ok (.dup, 1) := dk_89 (dk_at dksX2_all_2 16 rfl rfl)
theorem dX2_all_64 : decode cX2_all 64 = .ok (.getfield 122, 3) := dk_180 0 122 (dk_at dksX2_all_2 17 rfl rfl)
theorem dX2_all_67 : decode cX2_all 67 = .ok (.iconst 1, 1) := dk_4 (dk_at dksX2_all_2 20 rfl rfl)
theorem dX2_all_68 : decode cX2_all 68 = .ok (.iadd, 1) := dk_96 (dk_at dksX2_all_2 21 rfl rfl)
theorem dX2_all_69 : decode cX2_all 69 = .ok (.putfield 122, 3) := dk_181 0 122 (dk_at dksX2_all_3 0 rfl rfl)
theorem dX2_all_72 : decode cX2_all 72 = .ok (.aload_n 0, 1) := dk_42 (dk_at dksX2_all_3 3 rfl rfl)
theorem dX2_all_73 : decode cX2_all 73 = .ok (.invokevirtual 70, 3) := dk_182 0 70 (dk_at dksX2_all_3 4 rfl rfl)
theorem dX2_all_76 : decode cX2_all 76 = .ok (.astore_n 2, 1) := dk_77 (dk_at dksX2_all_3 7 rfl rfl)
theorem dX2_all_77 : decode cX2_all 77 = .ok (.aload_n 0, 1) := dk_42 (dk_at dksX2_all_3 8 rfl rfl)
theorem dX2_all_78 : decode cX2_all 78 = .ok (.aload_n 2, 1) := dk_44 (dk_at dksX2_all_3 9 rfl rfl)
theorem dX2_all_79 : decode cX2_all 79 = .ok (.aload_n 0, 1) := dk_42 (dk_at dksX2_all_3 10 rfl rfl)
theorem dX2_all_80 : decode cX2_all 80 = .ok (.getfield 61, 3) := dk_180 0 61 (dk_at dksX2_all_3 11 rfl rfl)
theorem dX2_all_83 : decode cX2_all 83 = .ok (.invokevirtual 129, 3) := dk_182 0 129 (dk_at dksX2_all_3 14 rfl rfl)
theorem dX2_all_86 : decode cX2_all 86 = .ok (.ifCond .ne 12, 3) := dk_154 0 12 (dk_at dksX2_all_3 17 rfl rfl)
theorem dX2_all_89 : decode cX2_all 89 = .ok (.aload_n 0, 1) := dk_42 (dk_at dksX2_all_3 20 rfl rfl)
theorem dX2_all_90 : decode cX2_all 90 = .ok (.aload_n 2, 1) := dk_44 (dk_at dksX2_all_3 21 rfl rfl)
theorem dX2_all_91 : decode cX2_all 91 = .ok (.aload_n 0, 1) := dk_42 (dk_at dksX2_all_3 22 rfl rfl)
theorem dX2_all_92 : decode cX2_all 92 = .ok (.getfield 61, 3) := dk_180 0 61 (dk_at dksX2_all_4 0 rfl rfl)
theorem dX2_all_95 : decode cX2_all 95 = .ok (.invokevirtual 133, 3) := dk_182 0 133 (dk_at dksX2_all_4 3 rfl rfl)
theorem dX2_all_98 : decode cX2_all 98 = .ok (.aload_n 0, 1) := dk_42 (dk_at dksX2_all_4 6 rfl rfl)
theorem dX2_all_99 : decode cX2_all 99 = .ok (.bipush 59, 2) := dk_16 59 (dk_at dksX2_all_4 7 rfl rfl)
theorem dX2_all_101 : decode cX2_all 101 = .ok (.invokevirtual 137, 3) := dk_182 0 137 (dk_at dksX2_all_4 9 rfl rfl)
theorem dX2_all_104 : decode cX2_all 104 = .ok (.goto (-78), 3) := dk_167 255 178 (dk_at dksX2_all_4 12 rfl rfl)
theorem dX2_all_107 : decode cX2_all 107 = .ok (.aload_n 0, 1) := dk_42 (dk_at dksX2_all_4 15 rfl rfl)
theorem dX2_all_108 : decode cX2_all 108 = .ok (.getfield 103, 3) := dk_180 0 103 (dk_at dksX2_all_4 16 rfl rfl)
theorem dX2_all_111 : decode cX2_all 111 = .ok (.areturn, 1) := dk_176 (dk_at dksX2_all_4 19 rfl rfl)
abbrev cX2_here : ByteArray := prog_17_method_4_code
def yX2_here : MethodName := ⟨RX2, "here", "()I"⟩
def dkwX2_here_2 : List UInt8 := [172]
abbrev dktX2_here_2 : List UInt8 := dkwX2_here_2 ++ []
def dkwX2_here_1 : List UInt8 := [160, 0, 16, 42, 89, 180, 0, 36, 4, 96, 181, 0, 36, 167, 255, 220, 42, 42, 180, 0, 36, 182, 0, 39]
abbrev dktX2_here_1 : List UInt8 := dkwX2_here_1 ++ dktX2_here_2
def dkwX2_here_0 : List UInt8 := [42, 42, 180, 0, 36, 182, 0, 39, 16, 32, 159, 0, 16, 42, 42, 180, 0, 36, 182, 0, 39, 16, 10]
abbrev dktX2_here_0 : List UInt8 := dkwX2_here_0 ++ dktX2_here_1
theorem dksX2_here_0 : cX2_here.data.toList.drop 0 = dktX2_here_0 := by decide +kernel
theorem dksX2_here_1 : cX2_here.data.toList.drop 23 = dktX2_here_1 := dk_seg dksX2_here_0 23 rfl rfl
theorem dksX2_here_2 : cX2_here.data.toList.drop 47 = dktX2_here_2 := dk_seg dksX2_here_1 24 rfl rfl
theorem dX2_here_0 : decode cX2_here 0 = .ok (.aload_n 0, 1) := dk_42 (dk_at dksX2_here_0 0 rfl rfl)
theorem dX2_here_1 : decode cX2_here 1 = .ok (.aload_n 0, 1) := dk_42 (dk_at dksX2_here_0 1 rfl rfl)
theorem dX2_here_2 : decode cX2_here 2 = .ok (.getfield 36, 3) := dk_180 0 36 (dk_at dksX2_here_0 2 rfl rfl)
theorem dX2_here_5 : decode cX2_here 5 = .ok (.invokevirtual 39, 3) := dk_182 0 39 (dk_at dksX2_here_0 5 rfl rfl)
theorem dX2_here_8 : decode cX2_here 8 = .ok (.bipush 32, 2) := dk_16 32 (dk_at dksX2_here_0 8 rfl rfl)
theorem dX2_here_10 : decode cX2_here 10 = .ok (.if_icmp .eq 16, 3) := dk_159 0 16 (dk_at dksX2_here_0 10 rfl rfl)
theorem dX2_here_13 : decode cX2_here 13 = .ok (.aload_n 0, 1) := dk_42 (dk_at dksX2_here_0 13 rfl rfl)
theorem dX2_here_14 : decode cX2_here 14 = .ok (.aload_n 0, 1) := dk_42 (dk_at dksX2_here_0 14 rfl rfl)
theorem dX2_here_15 : decode cX2_here 15 = .ok (.getfield 36, 3) := dk_180 0 36 (dk_at dksX2_here_0 15 rfl rfl)
theorem dX2_here_18 : decode cX2_here 18 = .ok (.invokevirtual 39, 3) := dk_182 0 39 (dk_at dksX2_here_0 18 rfl rfl)
theorem dX2_here_21 : decode cX2_here 21 = .ok (.bipush 10, 2) := dk_16 10 (dk_at dksX2_here_0 21 rfl rfl)
theorem dX2_here_23 : decode cX2_here 23 = .ok (.if_icmp .ne 16, 3) := dk_160 0 16 (dk_at dksX2_here_1 0 rfl rfl)
theorem dX2_here_26 : decode cX2_here 26 = .ok (.aload_n 0, 1) := dk_42 (dk_at dksX2_here_1 3 rfl rfl)
theorem dX2_here_27 : decode cX2_here 27 = .ok (.dup, 1) := dk_89 (dk_at dksX2_here_1 4 rfl rfl)
theorem dX2_here_28 : decode cX2_here 28 = .ok (.getfield 36, 3) := dk_180 0 36 (dk_at dksX2_here_1 5 rfl rfl)
theorem dX2_here_31 : decode cX2_here 31 = .ok (.iconst 1, 1) := dk_4 (dk_at dksX2_here_1 8 rfl rfl)
theorem dX2_here_32 : decode cX2_here 32 = .ok (.iadd, 1) := dk_96 (dk_at dksX2_here_1 9 rfl rfl)
theorem dX2_here_33 : decode cX2_here 33 = .ok (.putfield 36, 3) := dk_181 0 36 (dk_at dksX2_here_1 10 rfl rfl)
theorem dX2_here_36 : decode cX2_here 36 = .ok (.goto (-36), 3) := dk_167 255 220 (dk_at dksX2_here_1 13 rfl rfl)
theorem dX2_here_39 : decode cX2_here 39 = .ok (.aload_n 0, 1) := dk_42 (dk_at dksX2_here_1 16 rfl rfl)
theorem dX2_here_40 : decode cX2_here 40 = .ok (.aload_n 0, 1) := dk_42 (dk_at dksX2_here_1 17 rfl rfl)
theorem dX2_here_41 : decode cX2_here 41 = .ok (.getfield 36, 3) := dk_180 0 36 (dk_at dksX2_here_1 18 rfl rfl)
theorem dX2_here_44 : decode cX2_here 44 = .ok (.invokevirtual 39, 3) := dk_182 0 39 (dk_at dksX2_here_1 21 rfl rfl)
theorem dX2_here_47 : decode cX2_here 47 = .ok (.ireturn, 1) := dk_172 (dk_at dksX2_here_2 0 rfl rfl)
abbrev cX2_byteAt : ByteArray := prog_17_method_3_code
def yX2_byteAt : MethodName := ⟨RX2, "byteAt", "(I)I"⟩
def dkwX2_byteAt_1 : List UInt8 := [126, 167, 0, 4, 2, 172]
abbrev dktX2_byteAt_1 : List UInt8 := dkwX2_byteAt_1 ++ []
def dkwX2_byteAt_0 : List UInt8 := [27, 155, 0, 27, 27, 42, 180, 0, 29, 162, 0, 19, 42, 180, 0, 3, 180, 0, 32, 27, 51, 17, 0, 255]
abbrev dktX2_byteAt_0 : List UInt8 := dkwX2_byteAt_0 ++ dktX2_byteAt_1
theorem dksX2_byteAt_0 : cX2_byteAt.data.toList.drop 0 = dktX2_byteAt_0 := by decide +kernel
theorem dksX2_byteAt_1 : cX2_byteAt.data.toList.drop 24 = dktX2_byteAt_1 := dk_seg dksX2_byteAt_0 24 rfl rfl
theorem dX2_byteAt_0 : decode cX2_byteAt 0 = .ok (.iload_n 1, 1) := dk_27 (dk_at dksX2_byteAt_0 0 rfl rfl)
theorem dX2_byteAt_1 : decode cX2_byteAt 1 = .ok (.ifCond .lt 27, 3) := dk_155 0 27 (dk_at dksX2_byteAt_0 1 rfl rfl)
theorem dX2_byteAt_4 : decode cX2_byteAt 4 = .ok (.iload_n 1, 1) := dk_27 (dk_at dksX2_byteAt_0 4 rfl rfl)
theorem dX2_byteAt_5 : decode cX2_byteAt 5 = .ok (.aload_n 0, 1) := dk_42 (dk_at dksX2_byteAt_0 5 rfl rfl)
theorem dX2_byteAt_6 : decode cX2_byteAt 6 = .ok (.getfield 29, 3) := dk_180 0 29 (dk_at dksX2_byteAt_0 6 rfl rfl)
theorem dX2_byteAt_9 : decode cX2_byteAt 9 = .ok (.if_icmp .ge 19, 3) := dk_162 0 19 (dk_at dksX2_byteAt_0 9 rfl rfl)
theorem dX2_byteAt_12 : decode cX2_byteAt 12 = .ok (.aload_n 0, 1) := dk_42 (dk_at dksX2_byteAt_0 12 rfl rfl)
theorem dX2_byteAt_13 : decode cX2_byteAt 13 = .ok (.getfield 3, 3) := dk_180 0 3 (dk_at dksX2_byteAt_0 13 rfl rfl)
theorem dX2_byteAt_16 : decode cX2_byteAt 16 = .ok (.getfield 32, 3) := dk_180 0 32 (dk_at dksX2_byteAt_0 16 rfl rfl)
theorem dX2_byteAt_19 : decode cX2_byteAt 19 = .ok (.iload_n 1, 1) := dk_27 (dk_at dksX2_byteAt_0 19 rfl rfl)
theorem dX2_byteAt_20 : decode cX2_byteAt 20 = .ok (.baload, 1) := dk_51 (dk_at dksX2_byteAt_0 20 rfl rfl)
theorem dX2_byteAt_21 : decode cX2_byteAt 21 = .ok (.sipush 255, 3) := dk_17 0 255 (dk_at dksX2_byteAt_0 21 rfl rfl)
theorem dX2_byteAt_24 : decode cX2_byteAt 24 = .ok (.iand, 1) := dk_126 (dk_at dksX2_byteAt_1 0 rfl rfl)
theorem dX2_byteAt_25 : decode cX2_byteAt 25 = .ok (.goto 4, 3) := dk_167 0 4 (dk_at dksX2_byteAt_1 1 rfl rfl)
theorem dX2_byteAt_28 : decode cX2_byteAt 28 = .ok (.iconst (-1), 1) := dk_2 (dk_at dksX2_byteAt_1 4 rfl rfl)
theorem dX2_byteAt_29 : decode cX2_byteAt 29 = .ok (.ireturn, 1) := dk_172 (dk_at dksX2_byteAt_1 5 rfl rfl)
abbrev cX2_most : ByteArray := prog_17_method_15_code
def yX2_most : MethodName := ⟨RX2, "most", "(ZI)V"⟩
def dkwX2_most_0 : List UInt8 := [27, 153, 0, 10, 42, 8, 28, 182, 0, 47, 191, 177]
abbrev dktX2_most_0 : List UInt8 := dkwX2_most_0 ++ []
theorem dksX2_most_0 : cX2_most.data.toList.drop 0 = dktX2_most_0 := by decide +kernel
theorem dX2_most_0 : decode cX2_most 0 = .ok (.iload_n 1, 1) := dk_27 (dk_at dksX2_most_0 0 rfl rfl)
theorem dX2_most_1 : decode cX2_most 1 = .ok (.ifCond .eq 10, 3) := dk_153 0 10 (dk_at dksX2_most_0 1 rfl rfl)
theorem dX2_most_4 : decode cX2_most 4 = .ok (.aload_n 0, 1) := dk_42 (dk_at dksX2_most_0 4 rfl rfl)
theorem dX2_most_5 : decode cX2_most 5 = .ok (.iconst 5, 1) := dk_8 (dk_at dksX2_most_0 5 rfl rfl)
theorem dX2_most_6 : decode cX2_most 6 = .ok (.iload_n 2, 1) := dk_28 (dk_at dksX2_most_0 6 rfl rfl)
theorem dX2_most_7 : decode cX2_most 7 = .ok (.invokevirtual 47, 3) := dk_182 0 47 (dk_at dksX2_most_0 7 rfl rfl)
theorem dX2_most_10 : decode cX2_most 10 = .ok (.athrow, 1) := dk_191 (dk_at dksX2_most_0 10 rfl rfl)
theorem dX2_most_11 : decode cX2_most 11 = .ok (.return_, 1) := dk_177 (dk_at dksX2_most_0 11 rfl rfl)
abbrev cX2_wrong : ByteArray := prog_17_method_2_code
def yX2_wrong : MethodName := ⟨RX2, "wrong", "(II)LFirstSnuffer$Fault;"⟩
def dkwX2_wrong_0 : List UInt8 := [42, 180, 0, 18, 27, 181, 0, 22, 42, 180, 0, 18, 28, 181, 0, 26, 42, 180, 0, 18, 176]
abbrev dktX2_wrong_0 : List UInt8 := dkwX2_wrong_0 ++ []
theorem dksX2_wrong_0 : cX2_wrong.data.toList.drop 0 = dktX2_wrong_0 := by decide +kernel
theorem dX2_wrong_0 : decode cX2_wrong 0 = .ok (.aload_n 0, 1) := dk_42 (dk_at dksX2_wrong_0 0 rfl rfl)
theorem dX2_wrong_1 : decode cX2_wrong 1 = .ok (.getfield 18, 3) := dk_180 0 18 (dk_at dksX2_wrong_0 1 rfl rfl)
theorem dX2_wrong_4 : decode cX2_wrong 4 = .ok (.iload_n 1, 1) := dk_27 (dk_at dksX2_wrong_0 4 rfl rfl)
theorem dX2_wrong_5 : decode cX2_wrong 5 = .ok (.putfield 22, 3) := dk_181 0 22 (dk_at dksX2_wrong_0 5 rfl rfl)
theorem dX2_wrong_8 : decode cX2_wrong 8 = .ok (.aload_n 0, 1) := dk_42 (dk_at dksX2_wrong_0 8 rfl rfl)
theorem dX2_wrong_9 : decode cX2_wrong 9 = .ok (.getfield 18, 3) := dk_180 0 18 (dk_at dksX2_wrong_0 9 rfl rfl)
theorem dX2_wrong_12 : decode cX2_wrong 12 = .ok (.iload_n 2, 1) := dk_28 (dk_at dksX2_wrong_0 12 rfl rfl)
theorem dX2_wrong_13 : decode cX2_wrong 13 = .ok (.putfield 26, 3) := dk_181 0 26 (dk_at dksX2_wrong_0 13 rfl rfl)
theorem dX2_wrong_16 : decode cX2_wrong 16 = .ok (.aload_n 0, 1) := dk_42 (dk_at dksX2_wrong_0 16 rfl rfl)
theorem dX2_wrong_17 : decode cX2_wrong 17 = .ok (.getfield 18, 3) := dk_180 0 18 (dk_at dksX2_wrong_0 17 rfl rfl)
theorem dX2_wrong_20 : decode cX2_wrong 20 = .ok (.areturn, 1) := dk_176 (dk_at dksX2_wrong_0 20 rfl rfl)
abbrev cX2_word : ByteArray := prog_17_method_7_code
def yX2_word : MethodName := ⟨RX2, "word", "()Ljava/lang/String;"⟩
def dkwX2_word_4 : List UInt8 := [180, 0, 32, 28, 51, 146, 85, 132, 2, 1, 167, 255, 227, 43, 184, 0, 64, 176]
abbrev dktX2_word_4 : List UInt8 := dkwX2_word_4 ++ []
def dkwX2_word_3 : List UInt8 := [180, 0, 61, 61, 28, 42, 180, 0, 36, 162, 0, 27, 43, 28, 42, 180, 0, 61, 100, 42, 180, 0, 3]
abbrev dktX2_word_3 : List UInt8 := dkwX2_word_3 ++ dktX2_word_4
def dkwX2_word_2 : List UInt8 := [180, 0, 36, 4, 96, 181, 0, 36, 167, 255, 232, 42, 180, 0, 36, 42, 180, 0, 61, 100, 188, 5, 76, 42]
abbrev dktX2_word_2 : List UInt8 := dkwX2_word_2 ++ dktX2_word_3
def dkwX2_word_1 : List UInt8 := [42, 42, 180, 0, 36, 181, 0, 61, 42, 42, 180, 0, 36, 182, 0, 39, 184, 0, 51, 153, 0, 16, 42, 89]
abbrev dktX2_word_1 : List UInt8 := dkwX2_word_1 ++ dktX2_word_2
def dkwX2_word_0 : List UInt8 := [42, 182, 0, 43, 184, 0, 51, 154, 0, 13, 42, 4, 42, 180, 0, 36, 182, 0, 47, 191, 42, 182, 0, 58]
abbrev dktX2_word_0 : List UInt8 := dkwX2_word_0 ++ dktX2_word_1
theorem dksX2_word_0 : cX2_word.data.toList.drop 0 = dktX2_word_0 := by decide +kernel
theorem dksX2_word_1 : cX2_word.data.toList.drop 24 = dktX2_word_1 := dk_seg dksX2_word_0 24 rfl rfl
theorem dksX2_word_2 : cX2_word.data.toList.drop 48 = dktX2_word_2 := dk_seg dksX2_word_1 24 rfl rfl
theorem dksX2_word_3 : cX2_word.data.toList.drop 72 = dktX2_word_3 := dk_seg dksX2_word_2 24 rfl rfl
theorem dksX2_word_4 : cX2_word.data.toList.drop 95 = dktX2_word_4 := dk_seg dksX2_word_3 23 rfl rfl
theorem dX2_word_0 : decode cX2_word 0 = .ok (.aload_n 0, 1) := dk_42 (dk_at dksX2_word_0 0 rfl rfl)
theorem dX2_word_1 : decode cX2_word 1 = .ok (.invokevirtual 43, 3) := dk_182 0 43 (dk_at dksX2_word_0 1 rfl rfl)
theorem dX2_word_4 : decode cX2_word 4 = .ok (.invokestatic 51, 3) := dk_184 0 51 (dk_at dksX2_word_0 4 rfl rfl)
theorem dX2_word_7 : decode cX2_word 7 = .ok (.ifCond .ne 13, 3) := dk_154 0 13 (dk_at dksX2_word_0 7 rfl rfl)
theorem dX2_word_10 : decode cX2_word 10 = .ok (.aload_n 0, 1) := dk_42 (dk_at dksX2_word_0 10 rfl rfl)
theorem dX2_word_11 : decode cX2_word 11 = .ok (.iconst 1, 1) := dk_4 (dk_at dksX2_word_0 11 rfl rfl)
theorem dX2_word_12 : decode cX2_word 12 = .ok (.aload_n 0, 1) := dk_42 (dk_at dksX2_word_0 12 rfl rfl)
theorem dX2_word_13 : decode cX2_word 13 = .ok (.getfield 36, 3) := dk_180 0 36 (dk_at dksX2_word_0 13 rfl rfl)
theorem dX2_word_16 : decode cX2_word 16 = .ok (.invokevirtual 47, 3) := dk_182 0 47 (dk_at dksX2_word_0 16 rfl rfl)
theorem dX2_word_19 : decode cX2_word 19 = .ok (.athrow, 1) := dk_191 (dk_at dksX2_word_0 19 rfl rfl)
theorem dX2_word_20 : decode cX2_word 20 = .ok (.aload_n 0, 1) := dk_42 (dk_at dksX2_word_0 20 rfl rfl)
theorem dX2_word_21 : decode cX2_word 21 = .ok (.invokevirtual 58, 3) := dk_182 0 58 (dk_at dksX2_word_0 21 rfl rfl)
theorem dX2_word_24 : decode cX2_word 24 = .ok (.aload_n 0, 1) := dk_42 (dk_at dksX2_word_1 0 rfl rfl)
theorem dX2_word_25 : decode cX2_word 25 = .ok (.aload_n 0, 1) := dk_42 (dk_at dksX2_word_1 1 rfl rfl)
theorem dX2_word_26 : decode cX2_word 26 = .ok (.getfield 36, 3) := dk_180 0 36 (dk_at dksX2_word_1 2 rfl rfl)
theorem dX2_word_29 : decode cX2_word 29 = .ok (.putfield 61, 3) := dk_181 0 61 (dk_at dksX2_word_1 5 rfl rfl)
theorem dX2_word_32 : decode cX2_word 32 = .ok (.aload_n 0, 1) := dk_42 (dk_at dksX2_word_1 8 rfl rfl)
theorem dX2_word_33 : decode cX2_word 33 = .ok (.aload_n 0, 1) := dk_42 (dk_at dksX2_word_1 9 rfl rfl)
theorem dX2_word_34 : decode cX2_word 34 = .ok (.getfield 36, 3) := dk_180 0 36 (dk_at dksX2_word_1 10 rfl rfl)
theorem dX2_word_37 : decode cX2_word 37 = .ok (.invokevirtual 39, 3) := dk_182 0 39 (dk_at dksX2_word_1 13 rfl rfl)
theorem dX2_word_40 : decode cX2_word 40 = .ok (.invokestatic 51, 3) := dk_184 0 51 (dk_at dksX2_word_1 16 rfl rfl)
theorem dX2_word_43 : decode cX2_word 43 = .ok (.ifCond .eq 16, 3) := dk_153 0 16 (dk_at dksX2_word_1 19 rfl rfl)
theorem dX2_word_46 : decode cX2_word 46 = .ok (.aload_n 0, 1) := dk_42 (dk_at dksX2_word_1 22 rfl rfl)
theorem dX2_word_47 : decode cX2_word 47 = .ok (.dup, 1) := dk_89 (dk_at dksX2_word_1 23 rfl rfl)
theorem dX2_word_48 : decode cX2_word 48 = .ok (.getfield 36, 3) := dk_180 0 36 (dk_at dksX2_word_2 0 rfl rfl)
theorem dX2_word_51 : decode cX2_word 51 = .ok (.iconst 1, 1) := dk_4 (dk_at dksX2_word_2 3 rfl rfl)
theorem dX2_word_52 : decode cX2_word 52 = .ok (.iadd, 1) := dk_96 (dk_at dksX2_word_2 4 rfl rfl)
theorem dX2_word_53 : decode cX2_word 53 = .ok (.putfield 36, 3) := dk_181 0 36 (dk_at dksX2_word_2 5 rfl rfl)
theorem dX2_word_56 : decode cX2_word 56 = .ok (.goto (-24), 3) := dk_167 255 232 (dk_at dksX2_word_2 8 rfl rfl)
theorem dX2_word_59 : decode cX2_word 59 = .ok (.aload_n 0, 1) := dk_42 (dk_at dksX2_word_2 11 rfl rfl)
theorem dX2_word_60 : decode cX2_word 60 = .ok (.getfield 36, 3) := dk_180 0 36 (dk_at dksX2_word_2 12 rfl rfl)
theorem dX2_word_63 : decode cX2_word 63 = .ok (.aload_n 0, 1) := dk_42 (dk_at dksX2_word_2 15 rfl rfl)
theorem dX2_word_64 : decode cX2_word 64 = .ok (.getfield 61, 3) := dk_180 0 61 (dk_at dksX2_word_2 16 rfl rfl)
theorem dX2_word_67 : decode cX2_word 67 = .ok (.isub, 1) := dk_100 (dk_at dksX2_word_2 19 rfl rfl)
theorem dX2_word_68 : decode cX2_word 68 = .ok (.newarray .char, 2) := dk_188_5 (dk_at dksX2_word_2 20 rfl rfl)
theorem dX2_word_70 : decode cX2_word 70 = .ok (.astore_n 1, 1) := dk_76 (dk_at dksX2_word_2 22 rfl rfl)
theorem dX2_word_71 : decode cX2_word 71 = .ok (.aload_n 0, 1) := dk_42 (dk_at dksX2_word_2 23 rfl rfl)
theorem dX2_word_72 : decode cX2_word 72 = .ok (.getfield 61, 3) := dk_180 0 61 (dk_at dksX2_word_3 0 rfl rfl)
theorem dX2_word_75 : decode cX2_word 75 = .ok (.istore_n 2, 1) := dk_61 (dk_at dksX2_word_3 3 rfl rfl)
theorem dX2_word_76 : decode cX2_word 76 = .ok (.iload_n 2, 1) := dk_28 (dk_at dksX2_word_3 4 rfl rfl)
theorem dX2_word_77 : decode cX2_word 77 = .ok (.aload_n 0, 1) := dk_42 (dk_at dksX2_word_3 5 rfl rfl)
theorem dX2_word_78 : decode cX2_word 78 = .ok (.getfield 36, 3) := dk_180 0 36 (dk_at dksX2_word_3 6 rfl rfl)
theorem dX2_word_81 : decode cX2_word 81 = .ok (.if_icmp .ge 27, 3) := dk_162 0 27 (dk_at dksX2_word_3 9 rfl rfl)
theorem dX2_word_84 : decode cX2_word 84 = .ok (.aload_n 1, 1) := dk_43 (dk_at dksX2_word_3 12 rfl rfl)
theorem dX2_word_85 : decode cX2_word 85 = .ok (.iload_n 2, 1) := dk_28 (dk_at dksX2_word_3 13 rfl rfl)
theorem dX2_word_86 : decode cX2_word 86 = .ok (.aload_n 0, 1) := dk_42 (dk_at dksX2_word_3 14 rfl rfl)
theorem dX2_word_87 : decode cX2_word 87 = .ok (.getfield 61, 3) := dk_180 0 61 (dk_at dksX2_word_3 15 rfl rfl)
theorem dX2_word_90 : decode cX2_word 90 = .ok (.isub, 1) := dk_100 (dk_at dksX2_word_3 18 rfl rfl)
theorem dX2_word_91 : decode cX2_word 91 = .ok (.aload_n 0, 1) := dk_42 (dk_at dksX2_word_3 19 rfl rfl)
theorem dX2_word_92 : decode cX2_word 92 = .ok (.getfield 3, 3) := dk_180 0 3 (dk_at dksX2_word_3 20 rfl rfl)
theorem dX2_word_95 : decode cX2_word 95 = .ok (.getfield 32, 3) := dk_180 0 32 (dk_at dksX2_word_4 0 rfl rfl)
theorem dX2_word_98 : decode cX2_word 98 = .ok (.iload_n 2, 1) := dk_28 (dk_at dksX2_word_4 3 rfl rfl)
theorem dX2_word_99 : decode cX2_word 99 = .ok (.baload, 1) := dk_51 (dk_at dksX2_word_4 4 rfl rfl)
theorem dX2_word_100 : decode cX2_word 100 = .ok (.i2c, 1) := dk_146 (dk_at dksX2_word_4 5 rfl rfl)
theorem dX2_word_101 : decode cX2_word 101 = .ok (.castore, 1) := dk_85 (dk_at dksX2_word_4 6 rfl rfl)
theorem dX2_word_102 : decode cX2_word 102 = .ok (.iinc 2 1, 3) := dk_132 2 1 (dk_at dksX2_word_4 7 rfl rfl)
theorem dX2_word_105 : decode cX2_word 105 = .ok (.goto (-29), 3) := dk_167 255 227 (dk_at dksX2_word_4 10 rfl rfl)
theorem dX2_word_108 : decode cX2_word 108 = .ok (.aload_n 1, 1) := dk_43 (dk_at dksX2_word_4 13 rfl rfl)
theorem dX2_word_109 : decode cX2_word 109 = .ok (.invokestatic 64, 3) := dk_184 0 64 (dk_at dksX2_word_4 14 rfl rfl)
theorem dX2_word_112 : decode cX2_word 112 = .ok (.areturn, 1) := dk_176 (dk_at dksX2_word_4 17 rfl rfl)
abbrev cX2_parted : ByteArray := prog_17_method_6_code
def yX2_parted : MethodName := ⟨RX2, "parted", "()V"⟩
def dkwX2_parted_1 : List UInt8 := [182, 0, 39, 184, 0, 55, 153, 0, 13, 42, 4, 42, 180, 0, 36, 182, 0, 47, 191, 177]
abbrev dktX2_parted_1 : List UInt8 := dkwX2_parted_1 ++ []
def dkwX2_parted_0 : List UInt8 := [42, 42, 180, 0, 36, 4, 100, 182, 0, 39, 184, 0, 51, 154, 0, 19, 42, 42, 180, 0, 36, 4, 100]
abbrev dktX2_parted_0 : List UInt8 := dkwX2_parted_0 ++ dktX2_parted_1
theorem dksX2_parted_0 : cX2_parted.data.toList.drop 0 = dktX2_parted_0 := by decide +kernel
theorem dksX2_parted_1 : cX2_parted.data.toList.drop 23 = dktX2_parted_1 := dk_seg dksX2_parted_0 23 rfl rfl
theorem dX2_parted_0 : decode cX2_parted 0 = .ok (.aload_n 0, 1) := dk_42 (dk_at dksX2_parted_0 0 rfl rfl)
theorem dX2_parted_1 : decode cX2_parted 1 = .ok (.aload_n 0, 1) := dk_42 (dk_at dksX2_parted_0 1 rfl rfl)
theorem dX2_parted_2 : decode cX2_parted 2 = .ok (.getfield 36, 3) := dk_180 0 36 (dk_at dksX2_parted_0 2 rfl rfl)
theorem dX2_parted_5 : decode cX2_parted 5 = .ok (.iconst 1, 1) := dk_4 (dk_at dksX2_parted_0 5 rfl rfl)
theorem dX2_parted_6 : decode cX2_parted 6 = .ok (.isub, 1) := dk_100 (dk_at dksX2_parted_0 6 rfl rfl)
theorem dX2_parted_7 : decode cX2_parted 7 = .ok (.invokevirtual 39, 3) := dk_182 0 39 (dk_at dksX2_parted_0 7 rfl rfl)
theorem dX2_parted_10 : decode cX2_parted 10 = .ok (.invokestatic 51, 3) := dk_184 0 51 (dk_at dksX2_parted_0 10 rfl rfl)
theorem dX2_parted_13 : decode cX2_parted 13 = .ok (.ifCond .ne 19, 3) := dk_154 0 19 (dk_at dksX2_parted_0 13 rfl rfl)
theorem dX2_parted_16 : decode cX2_parted 16 = .ok (.aload_n 0, 1) := dk_42 (dk_at dksX2_parted_0 16 rfl rfl)
theorem dX2_parted_17 : decode cX2_parted 17 = .ok (.aload_n 0, 1) := dk_42 (dk_at dksX2_parted_0 17 rfl rfl)
theorem dX2_parted_18 : decode cX2_parted 18 = .ok (.getfield 36, 3) := dk_180 0 36 (dk_at dksX2_parted_0 18 rfl rfl)
theorem dX2_parted_21 : decode cX2_parted 21 = .ok (.iconst 1, 1) := dk_4 (dk_at dksX2_parted_0 21 rfl rfl)
theorem dX2_parted_22 : decode cX2_parted 22 = .ok (.isub, 1) := dk_100 (dk_at dksX2_parted_0 22 rfl rfl)
theorem dX2_parted_23 : decode cX2_parted 23 = .ok (.invokevirtual 39, 3) := dk_182 0 39 (dk_at dksX2_parted_1 0 rfl rfl)
theorem dX2_parted_26 : decode cX2_parted 26 = .ok (.invokestatic 55, 3) := dk_184 0 55 (dk_at dksX2_parted_1 3 rfl rfl)
theorem dX2_parted_29 : decode cX2_parted 29 = .ok (.ifCond .eq 13, 3) := dk_153 0 13 (dk_at dksX2_parted_1 6 rfl rfl)
theorem dX2_parted_32 : decode cX2_parted 32 = .ok (.aload_n 0, 1) := dk_42 (dk_at dksX2_parted_1 9 rfl rfl)
theorem dX2_parted_33 : decode cX2_parted 33 = .ok (.iconst 1, 1) := dk_4 (dk_at dksX2_parted_1 10 rfl rfl)
theorem dX2_parted_34 : decode cX2_parted 34 = .ok (.aload_n 0, 1) := dk_42 (dk_at dksX2_parted_1 11 rfl rfl)
theorem dX2_parted_35 : decode cX2_parted 35 = .ok (.getfield 36, 3) := dk_180 0 36 (dk_at dksX2_parted_1 12 rfl rfl)
theorem dX2_parted_38 : decode cX2_parted 38 = .ok (.invokevirtual 47, 3) := dk_182 0 47 (dk_at dksX2_parted_1 15 rfl rfl)
theorem dX2_parted_41 : decode cX2_parted 41 = .ok (.athrow, 1) := dk_191 (dk_at dksX2_parted_1 18 rfl rfl)
theorem dX2_parted_42 : decode cX2_parted 42 = .ok (.return_, 1) := dk_177 (dk_at dksX2_parted_1 19 rfl rfl)
abbrev cX2_isTold : ByteArray := prog_17_method_20_code
def yX2_isTold : MethodName := ⟨RX2, "isTold", "(Ljava/lang/String;I)Z"⟩
def dkwX2_isTold_11 : List UInt8 := [4, 172, 3, 172]
abbrev dktX2_isTold_11 : List UInt8 := dkwX2_isTold_11 ++ []
def dkwX2_isTold_10 : List UInt8 := [182, 0, 220, 4, 172, 42, 180, 0, 103, 42, 42, 180, 0, 103, 180, 0, 149, 2, 182, 0, 152, 181, 0, 223]
abbrev dktX2_isTold_10 : List UInt8 := dkwX2_isTold_10 ++ dktX2_isTold_11
def dkwX2_isTold_9 : List UInt8 := [185, 0, 167, 2, 0, 87, 4, 172, 42, 28, 182, 0, 214, 4, 172, 42, 28, 182, 0, 217, 4, 172, 42, 28]
abbrev dktX2_isTold_9 : List UInt8 := dkwX2_isTold_9 ++ dktX2_isTold_10
def dkwX2_isTold_8 : List UInt8 := [182, 0, 125, 42, 180, 0, 103, 180, 0, 149, 187, 0, 114, 89, 42, 182, 0, 173, 183, 0, 212]
abbrev dktX2_isTold_8 : List UInt8 := dkwX2_isTold_8 ++ dktX2_isTold_9
def dkwX2_isTold_7 : List UInt8 := [42, 42, 180, 0, 103, 180, 0, 149, 185, 0, 145, 1, 0, 16, 8, 160, 0, 7, 4, 167, 0, 4, 3, 28]
abbrev dktX2_isTold_7 : List UInt8 := dkwX2_isTold_7 ++ dktX2_isTold_8
def dkwX2_isTold_6 : List UInt8 := [170, 0, 0, 0, 0, 129, 0, 0, 0, 0, 0, 0, 0, 4, 0, 0, 0, 34, 0, 0, 0, 87, 0, 0, 0, 94, 0, 0, 0, 101, 0, 0, 0, 108]
abbrev dktX2_isTold_6 : List UInt8 := dkwX2_isTold_6 ++ dktX2_isTold_7
def dkwX2_isTold_5 : List UInt8 := [21, 4]
abbrev dktX2_isTold_5 : List UInt8 := dkwX2_isTold_5 ++ dktX2_isTold_6
def dkwX2_isTold_4 : List UInt8 := [182, 0, 74, 153, 0, 21, 6, 54, 4, 167, 0, 15, 45, 18, 210, 182, 0, 74, 153, 0, 6, 7, 54, 4]
abbrev dktX2_isTold_4 : List UInt8 := dkwX2_isTold_4 ++ dktX2_isTold_5
def dkwX2_isTold_3 : List UInt8 := [4, 54, 4, 167, 0, 45, 45, 18, 206, 182, 0, 74, 153, 0, 36, 5, 54, 4, 167, 0, 30, 45, 18, 208]
abbrev dktX2_isTold_3 : List UInt8 := dkwX2_isTold_3 ++ dktX2_isTold_4
def dkwX2_isTold_2 : List UInt8 := [45, 18, 202, 182, 0, 74, 153, 0, 66, 3, 54, 4, 167, 0, 60, 45, 18, 204, 182, 0, 74, 153, 0, 51]
abbrev dktX2_isTold_2 : List UInt8 := dkwX2_isTold_2 ++ dktX2_isTold_3
def dkwX2_isTold_1 : List UInt8 := [171, 0, 0, 0, 0, 0, 123, 0, 0, 0, 5, 202, 205, 200, 81, 0, 0, 0, 111, 0, 1, 192, 144, 0, 0, 0, 96, 0, 47, 35, 174, 0, 0, 0, 66, 0, 48, 192, 57, 0, 0, 0, 51, 6, 147, 132, 238, 0, 0, 0, 81]
abbrev dktX2_isTold_1 : List UInt8 := dkwX2_isTold_1 ++ dktX2_isTold_2
def dkwX2_isTold_0 : List UInt8 := [43, 78, 2, 54, 4, 45, 182, 0, 199]
abbrev dktX2_isTold_0 : List UInt8 := dkwX2_isTold_0 ++ dktX2_isTold_1
theorem dksX2_isTold_0 : cX2_isTold.data.toList.drop 0 = dktX2_isTold_0 := by decide +kernel
theorem dksX2_isTold_1 : cX2_isTold.data.toList.drop 9 = dktX2_isTold_1 := dk_seg dksX2_isTold_0 9 rfl rfl
theorem dksX2_isTold_2 : cX2_isTold.data.toList.drop 60 = dktX2_isTold_2 := dk_seg dksX2_isTold_1 51 rfl rfl
theorem dksX2_isTold_3 : cX2_isTold.data.toList.drop 84 = dktX2_isTold_3 := dk_seg dksX2_isTold_2 24 rfl rfl
theorem dksX2_isTold_4 : cX2_isTold.data.toList.drop 108 = dktX2_isTold_4 := dk_seg dksX2_isTold_3 24 rfl rfl
theorem dksX2_isTold_5 : cX2_isTold.data.toList.drop 132 = dktX2_isTold_5 := dk_seg dksX2_isTold_4 24 rfl rfl
theorem dksX2_isTold_6 : cX2_isTold.data.toList.drop 134 = dktX2_isTold_6 := dk_seg dksX2_isTold_5 2 rfl rfl
theorem dksX2_isTold_7 : cX2_isTold.data.toList.drop 168 = dktX2_isTold_7 := dk_seg dksX2_isTold_6 34 rfl rfl
theorem dksX2_isTold_8 : cX2_isTold.data.toList.drop 192 = dktX2_isTold_8 := dk_seg dksX2_isTold_7 24 rfl rfl
theorem dksX2_isTold_9 : cX2_isTold.data.toList.drop 213 = dktX2_isTold_9 := dk_seg dksX2_isTold_8 21 rfl rfl
theorem dksX2_isTold_10 : cX2_isTold.data.toList.drop 237 = dktX2_isTold_10 := dk_seg dksX2_isTold_9 24 rfl rfl
theorem dksX2_isTold_11 : cX2_isTold.data.toList.drop 261 = dktX2_isTold_11 := dk_seg dksX2_isTold_10 24 rfl rfl
theorem dX2_isTold_0 : decode cX2_isTold 0 = .ok (.aload_n 1, 1) := dk_43 (dk_at dksX2_isTold_0 0 rfl rfl)
theorem dX2_isTold_1 : decode cX2_isTold 1 = .ok (.astore_n 3, 1) := dk_78 (dk_at dksX2_isTold_0 1 rfl rfl)
theorem dX2_isTold_2 : decode cX2_isTold 2 = .ok (.iconst (-1), 1) := dk_2 (dk_at dksX2_isTold_0 2 rfl rfl)
theorem dX2_isTold_3 : decode cX2_isTold 3 = .ok (.istore 4, 2) := dk_54 4 (dk_at dksX2_isTold_0 3 rfl rfl)
theorem dX2_isTold_5 : decode cX2_isTold 5 = .ok (.aload_n 3, 1) := dk_45 (dk_at dksX2_isTold_0 5 rfl rfl)
theorem dX2_isTold_6 : decode cX2_isTold 6 = .ok (.invokevirtual 199, 3) := dk_182 0 199 (dk_at dksX2_isTold_0 6 rfl rfl)
theorem dX2_isTold_9 : decode cX2_isTold 9 = .ok (.lookupswitch 123 #[(-892483503, 111), (114832, 96), (3089326, 66), (3194937, 51), (110331118, 81)], 51) := by decide +kernel
theorem dX2_isTold_60 : decode cX2_isTold 60 = .ok (.aload_n 3, 1) := dk_45 (dk_at dksX2_isTold_2 0 rfl rfl)
theorem dX2_isTold_61 : decode cX2_isTold 61 = .ok (.ldc 202, 2) := dk_18 202 (dk_at dksX2_isTold_2 1 rfl rfl)
theorem dX2_isTold_63 : decode cX2_isTold 63 = .ok (.invokevirtual 74, 3) := dk_182 0 74 (dk_at dksX2_isTold_2 3 rfl rfl)
theorem dX2_isTold_66 : decode cX2_isTold 66 = .ok (.ifCond .eq 66, 3) := dk_153 0 66 (dk_at dksX2_isTold_2 6 rfl rfl)
theorem dX2_isTold_69 : decode cX2_isTold 69 = .ok (.iconst 0, 1) := dk_3 (dk_at dksX2_isTold_2 9 rfl rfl)
theorem dX2_isTold_70 : decode cX2_isTold 70 = .ok (.istore 4, 2) := dk_54 4 (dk_at dksX2_isTold_2 10 rfl rfl)
theorem dX2_isTold_72 : decode cX2_isTold 72 = .ok (.goto 60, 3) := dk_167 0 60 (dk_at dksX2_isTold_2 12 rfl rfl)
theorem dX2_isTold_75 : decode cX2_isTold 75 = .ok (.aload_n 3, 1) := dk_45 (dk_at dksX2_isTold_2 15 rfl rfl)
theorem dX2_isTold_76 : decode cX2_isTold 76 = .ok (.ldc 204, 2) := dk_18 204 (dk_at dksX2_isTold_2 16 rfl rfl)
theorem dX2_isTold_78 : decode cX2_isTold 78 = .ok (.invokevirtual 74, 3) := dk_182 0 74 (dk_at dksX2_isTold_2 18 rfl rfl)
theorem dX2_isTold_81 : decode cX2_isTold 81 = .ok (.ifCond .eq 51, 3) := dk_153 0 51 (dk_at dksX2_isTold_2 21 rfl rfl)
theorem dX2_isTold_84 : decode cX2_isTold 84 = .ok (.iconst 1, 1) := dk_4 (dk_at dksX2_isTold_3 0 rfl rfl)
theorem dX2_isTold_85 : decode cX2_isTold 85 = .ok (.istore 4, 2) := dk_54 4 (dk_at dksX2_isTold_3 1 rfl rfl)
theorem dX2_isTold_87 : decode cX2_isTold 87 = .ok (.goto 45, 3) := dk_167 0 45 (dk_at dksX2_isTold_3 3 rfl rfl)
theorem dX2_isTold_90 : decode cX2_isTold 90 = .ok (.aload_n 3, 1) := dk_45 (dk_at dksX2_isTold_3 6 rfl rfl)
theorem dX2_isTold_91 : decode cX2_isTold 91 = .ok (.ldc 206, 2) := dk_18 206 (dk_at dksX2_isTold_3 7 rfl rfl)
theorem dX2_isTold_93 : decode cX2_isTold 93 = .ok (.invokevirtual 74, 3) := dk_182 0 74 (dk_at dksX2_isTold_3 9 rfl rfl)
theorem dX2_isTold_96 : decode cX2_isTold 96 = .ok (.ifCond .eq 36, 3) := dk_153 0 36 (dk_at dksX2_isTold_3 12 rfl rfl)
theorem dX2_isTold_99 : decode cX2_isTold 99 = .ok (.iconst 2, 1) := dk_5 (dk_at dksX2_isTold_3 15 rfl rfl)
theorem dX2_isTold_100 : decode cX2_isTold 100 = .ok (.istore 4, 2) := dk_54 4 (dk_at dksX2_isTold_3 16 rfl rfl)
theorem dX2_isTold_102 : decode cX2_isTold 102 = .ok (.goto 30, 3) := dk_167 0 30 (dk_at dksX2_isTold_3 18 rfl rfl)
theorem dX2_isTold_105 : decode cX2_isTold 105 = .ok (.aload_n 3, 1) := dk_45 (dk_at dksX2_isTold_3 21 rfl rfl)
theorem dX2_isTold_106 : decode cX2_isTold 106 = .ok (.ldc 208, 2) := dk_18 208 (dk_at dksX2_isTold_3 22 rfl rfl)
theorem dX2_isTold_108 : decode cX2_isTold 108 = .ok (.invokevirtual 74, 3) := dk_182 0 74 (dk_at dksX2_isTold_4 0 rfl rfl)
theorem dX2_isTold_111 : decode cX2_isTold 111 = .ok (.ifCond .eq 21, 3) := dk_153 0 21 (dk_at dksX2_isTold_4 3 rfl rfl)
theorem dX2_isTold_114 : decode cX2_isTold 114 = .ok (.iconst 3, 1) := dk_6 (dk_at dksX2_isTold_4 6 rfl rfl)
theorem dX2_isTold_115 : decode cX2_isTold 115 = .ok (.istore 4, 2) := dk_54 4 (dk_at dksX2_isTold_4 7 rfl rfl)
theorem dX2_isTold_117 : decode cX2_isTold 117 = .ok (.goto 15, 3) := dk_167 0 15 (dk_at dksX2_isTold_4 9 rfl rfl)
theorem dX2_isTold_120 : decode cX2_isTold 120 = .ok (.aload_n 3, 1) := dk_45 (dk_at dksX2_isTold_4 12 rfl rfl)
theorem dX2_isTold_121 : decode cX2_isTold 121 = .ok (.ldc 210, 2) := dk_18 210 (dk_at dksX2_isTold_4 13 rfl rfl)
theorem dX2_isTold_123 : decode cX2_isTold 123 = .ok (.invokevirtual 74, 3) := dk_182 0 74 (dk_at dksX2_isTold_4 15 rfl rfl)
theorem dX2_isTold_126 : decode cX2_isTold 126 = .ok (.ifCond .eq 6, 3) := dk_153 0 6 (dk_at dksX2_isTold_4 18 rfl rfl)
theorem dX2_isTold_129 : decode cX2_isTold 129 = .ok (.iconst 4, 1) := dk_7 (dk_at dksX2_isTold_4 21 rfl rfl)
theorem dX2_isTold_130 : decode cX2_isTold 130 = .ok (.istore 4, 2) := dk_54 4 (dk_at dksX2_isTold_4 22 rfl rfl)
theorem dX2_isTold_132 : decode cX2_isTold 132 = .ok (.iload 4, 2) := dk_21 4 (dk_at dksX2_isTold_5 0 rfl rfl)
theorem dX2_isTold_134 : decode cX2_isTold 134 = .ok (.tableswitch 129 0 4 #[34, 87, 94, 101, 108], 34) := by decide +kernel
theorem dX2_isTold_168 : decode cX2_isTold 168 = .ok (.aload_n 0, 1) := dk_42 (dk_at dksX2_isTold_7 0 rfl rfl)
theorem dX2_isTold_169 : decode cX2_isTold 169 = .ok (.aload_n 0, 1) := dk_42 (dk_at dksX2_isTold_7 1 rfl rfl)
theorem dX2_isTold_170 : decode cX2_isTold 170 = .ok (.getfield 103, 3) := dk_180 0 103 (dk_at dksX2_isTold_7 2 rfl rfl)
theorem dX2_isTold_173 : decode cX2_isTold 173 = .ok (.getfield 149, 3) := dk_180 0 149 (dk_at dksX2_isTold_7 5 rfl rfl)
theorem dX2_isTold_176 : decode cX2_isTold 176 = .ok (.invokeinterface 145 1, 5) := by decide +kernel
theorem dX2_isTold_181 : decode cX2_isTold 181 = .ok (.bipush 8, 2) := dk_16 8 (dk_at dksX2_isTold_7 13 rfl rfl)
theorem dX2_isTold_183 : decode cX2_isTold 183 = .ok (.if_icmp .ne 7, 3) := dk_160 0 7 (dk_at dksX2_isTold_7 15 rfl rfl)
theorem dX2_isTold_186 : decode cX2_isTold 186 = .ok (.iconst 1, 1) := dk_4 (dk_at dksX2_isTold_7 18 rfl rfl)
theorem dX2_isTold_187 : decode cX2_isTold 187 = .ok (.goto 4, 3) := dk_167 0 4 (dk_at dksX2_isTold_7 19 rfl rfl)
theorem dX2_isTold_190 : decode cX2_isTold 190 = .ok (.iconst 0, 1) := dk_3 (dk_at dksX2_isTold_7 22 rfl rfl)
theorem dX2_isTold_191 : decode cX2_isTold 191 = .ok (.iload_n 2, 1) := dk_28 (dk_at dksX2_isTold_7 23 rfl rfl)
theorem dX2_isTold_192 : decode cX2_isTold 192 = .ok (.invokevirtual 125, 3) := dk_182 0 125 (dk_at dksX2_isTold_8 0 rfl rfl)
theorem dX2_isTold_195 : decode cX2_isTold 195 = .ok (.aload_n 0, 1) := dk_42 (dk_at dksX2_isTold_8 3 rfl rfl)
theorem dX2_isTold_196 : decode cX2_isTold 196 = .ok (.getfield 103, 3) := dk_180 0 103 (dk_at dksX2_isTold_8 4 rfl rfl)
theorem dX2_isTold_199 : decode cX2_isTold 199 = .ok (.getfield 149, 3) := dk_180 0 149 (dk_at dksX2_isTold_8 7 rfl rfl)
theorem dX2_isTold_202 : decode cX2_isTold 202 = .ok (.new 114, 3) := dk_187 0 114 (dk_at dksX2_isTold_8 10 rfl rfl)
theorem dX2_isTold_205 : decode cX2_isTold 205 = .ok (.dup, 1) := dk_89 (dk_at dksX2_isTold_8 13 rfl rfl)
theorem dX2_isTold_206 : decode cX2_isTold 206 = .ok (.aload_n 0, 1) := dk_42 (dk_at dksX2_isTold_8 14 rfl rfl)
theorem dX2_isTold_207 : decode cX2_isTold 207 = .ok (.invokevirtual 173, 3) := dk_182 0 173 (dk_at dksX2_isTold_8 15 rfl rfl)
theorem dX2_isTold_210 : decode cX2_isTold 210 = .ok (.invokespecial 212, 3) := dk_183 0 212 (dk_at dksX2_isTold_8 18 rfl rfl)
theorem dX2_isTold_213 : decode cX2_isTold 213 = .ok (.invokeinterface 167 2, 5) := by decide +kernel
theorem dX2_isTold_218 : decode cX2_isTold 218 = .ok (.pop, 1) := dk_87 (dk_at dksX2_isTold_9 5 rfl rfl)
theorem dX2_isTold_219 : decode cX2_isTold 219 = .ok (.iconst 1, 1) := dk_4 (dk_at dksX2_isTold_9 6 rfl rfl)
theorem dX2_isTold_220 : decode cX2_isTold 220 = .ok (.ireturn, 1) := dk_172 (dk_at dksX2_isTold_9 7 rfl rfl)
theorem dX2_isTold_221 : decode cX2_isTold 221 = .ok (.aload_n 0, 1) := dk_42 (dk_at dksX2_isTold_9 8 rfl rfl)
theorem dX2_isTold_222 : decode cX2_isTold 222 = .ok (.iload_n 2, 1) := dk_28 (dk_at dksX2_isTold_9 9 rfl rfl)
theorem dX2_isTold_223 : decode cX2_isTold 223 = .ok (.invokevirtual 214, 3) := dk_182 0 214 (dk_at dksX2_isTold_9 10 rfl rfl)
theorem dX2_isTold_226 : decode cX2_isTold 226 = .ok (.iconst 1, 1) := dk_4 (dk_at dksX2_isTold_9 13 rfl rfl)
theorem dX2_isTold_227 : decode cX2_isTold 227 = .ok (.ireturn, 1) := dk_172 (dk_at dksX2_isTold_9 14 rfl rfl)
theorem dX2_isTold_228 : decode cX2_isTold 228 = .ok (.aload_n 0, 1) := dk_42 (dk_at dksX2_isTold_9 15 rfl rfl)
theorem dX2_isTold_229 : decode cX2_isTold 229 = .ok (.iload_n 2, 1) := dk_28 (dk_at dksX2_isTold_9 16 rfl rfl)
theorem dX2_isTold_230 : decode cX2_isTold 230 = .ok (.invokevirtual 217, 3) := dk_182 0 217 (dk_at dksX2_isTold_9 17 rfl rfl)
theorem dX2_isTold_233 : decode cX2_isTold 233 = .ok (.iconst 1, 1) := dk_4 (dk_at dksX2_isTold_9 20 rfl rfl)
theorem dX2_isTold_234 : decode cX2_isTold 234 = .ok (.ireturn, 1) := dk_172 (dk_at dksX2_isTold_9 21 rfl rfl)
theorem dX2_isTold_235 : decode cX2_isTold 235 = .ok (.aload_n 0, 1) := dk_42 (dk_at dksX2_isTold_9 22 rfl rfl)
theorem dX2_isTold_236 : decode cX2_isTold 236 = .ok (.iload_n 2, 1) := dk_28 (dk_at dksX2_isTold_9 23 rfl rfl)
theorem dX2_isTold_237 : decode cX2_isTold 237 = .ok (.invokevirtual 220, 3) := dk_182 0 220 (dk_at dksX2_isTold_10 0 rfl rfl)
theorem dX2_isTold_240 : decode cX2_isTold 240 = .ok (.iconst 1, 1) := dk_4 (dk_at dksX2_isTold_10 3 rfl rfl)
theorem dX2_isTold_241 : decode cX2_isTold 241 = .ok (.ireturn, 1) := dk_172 (dk_at dksX2_isTold_10 4 rfl rfl)
theorem dX2_isTold_242 : decode cX2_isTold 242 = .ok (.aload_n 0, 1) := dk_42 (dk_at dksX2_isTold_10 5 rfl rfl)
theorem dX2_isTold_243 : decode cX2_isTold 243 = .ok (.getfield 103, 3) := dk_180 0 103 (dk_at dksX2_isTold_10 6 rfl rfl)
theorem dX2_isTold_246 : decode cX2_isTold 246 = .ok (.aload_n 0, 1) := dk_42 (dk_at dksX2_isTold_10 9 rfl rfl)
theorem dX2_isTold_247 : decode cX2_isTold 247 = .ok (.aload_n 0, 1) := dk_42 (dk_at dksX2_isTold_10 10 rfl rfl)
theorem dX2_isTold_248 : decode cX2_isTold 248 = .ok (.getfield 103, 3) := dk_180 0 103 (dk_at dksX2_isTold_10 11 rfl rfl)
theorem dX2_isTold_251 : decode cX2_isTold 251 = .ok (.getfield 149, 3) := dk_180 0 149 (dk_at dksX2_isTold_10 14 rfl rfl)
theorem dX2_isTold_254 : decode cX2_isTold 254 = .ok (.iconst (-1), 1) := dk_2 (dk_at dksX2_isTold_10 17 rfl rfl)
theorem dX2_isTold_255 : decode cX2_isTold 255 = .ok (.invokevirtual 152, 3) := dk_182 0 152 (dk_at dksX2_isTold_10 18 rfl rfl)
theorem dX2_isTold_258 : decode cX2_isTold 258 = .ok (.putfield 223, 3) := dk_181 0 223 (dk_at dksX2_isTold_10 21 rfl rfl)
theorem dX2_isTold_261 : decode cX2_isTold 261 = .ok (.iconst 1, 1) := dk_4 (dk_at dksX2_isTold_11 0 rfl rfl)
theorem dX2_isTold_262 : decode cX2_isTold 262 = .ok (.ireturn, 1) := dk_172 (dk_at dksX2_isTold_11 1 rfl rfl)
theorem dX2_isTold_263 : decode cX2_isTold 263 = .ok (.iconst 0, 1) := dk_3 (dk_at dksX2_isTold_11 2 rfl rfl)
theorem dX2_isTold_264 : decode cX2_isTold 264 = .ok (.ireturn, 1) := dk_172 (dk_at dksX2_isTold_11 3 rfl rfl)
abbrev cX2_fresh : ByteArray := prog_17_method_13_code
def yX2_fresh : MethodName := ⟨RX2, "fresh", "()Ljava/lang/String;"⟩
def dkwX2_fresh_1 : List UInt8 := [182, 0, 47, 191, 43, 176]
abbrev dktX2_fresh_1 : List UInt8 := dkwX2_fresh_1 ++ []
def dkwX2_fresh_0 : List UInt8 := [42, 182, 0, 100, 76, 42, 180, 0, 103, 43, 182, 0, 107, 153, 0, 13, 42, 6, 42, 180, 0, 61]
abbrev dktX2_fresh_0 : List UInt8 := dkwX2_fresh_0 ++ dktX2_fresh_1
theorem dksX2_fresh_0 : cX2_fresh.data.toList.drop 0 = dktX2_fresh_0 := by decide +kernel
theorem dksX2_fresh_1 : cX2_fresh.data.toList.drop 22 = dktX2_fresh_1 := dk_seg dksX2_fresh_0 22 rfl rfl
theorem dX2_fresh_0 : decode cX2_fresh 0 = .ok (.aload_n 0, 1) := dk_42 (dk_at dksX2_fresh_0 0 rfl rfl)
theorem dX2_fresh_1 : decode cX2_fresh 1 = .ok (.invokevirtual 100, 3) := dk_182 0 100 (dk_at dksX2_fresh_0 1 rfl rfl)
theorem dX2_fresh_4 : decode cX2_fresh 4 = .ok (.astore_n 1, 1) := dk_76 (dk_at dksX2_fresh_0 4 rfl rfl)
theorem dX2_fresh_5 : decode cX2_fresh 5 = .ok (.aload_n 0, 1) := dk_42 (dk_at dksX2_fresh_0 5 rfl rfl)
theorem dX2_fresh_6 : decode cX2_fresh 6 = .ok (.getfield 103, 3) := dk_180 0 103 (dk_at dksX2_fresh_0 6 rfl rfl)
theorem dX2_fresh_9 : decode cX2_fresh 9 = .ok (.aload_n 1, 1) := dk_43 (dk_at dksX2_fresh_0 9 rfl rfl)
theorem dX2_fresh_10 : decode cX2_fresh 10 = .ok (.invokevirtual 107, 3) := dk_182 0 107 (dk_at dksX2_fresh_0 10 rfl rfl)
theorem dX2_fresh_13 : decode cX2_fresh 13 = .ok (.ifCond .eq 13, 3) := dk_153 0 13 (dk_at dksX2_fresh_0 13 rfl rfl)
theorem dX2_fresh_16 : decode cX2_fresh 16 = .ok (.aload_n 0, 1) := dk_42 (dk_at dksX2_fresh_0 16 rfl rfl)
theorem dX2_fresh_17 : decode cX2_fresh 17 = .ok (.iconst 3, 1) := dk_6 (dk_at dksX2_fresh_0 17 rfl rfl)
theorem dX2_fresh_18 : decode cX2_fresh 18 = .ok (.aload_n 0, 1) := dk_42 (dk_at dksX2_fresh_0 18 rfl rfl)
theorem dX2_fresh_19 : decode cX2_fresh 19 = .ok (.getfield 61, 3) := dk_180 0 61 (dk_at dksX2_fresh_0 19 rfl rfl)
theorem dX2_fresh_22 : decode cX2_fresh 22 = .ok (.invokevirtual 47, 3) := dk_182 0 47 (dk_at dksX2_fresh_1 0 rfl rfl)
theorem dX2_fresh_25 : decode cX2_fresh 25 = .ok (.athrow, 1) := dk_191 (dk_at dksX2_fresh_1 3 rfl rfl)
theorem dX2_fresh_26 : decode cX2_fresh 26 = .ok (.aload_n 1, 1) := dk_43 (dk_at dksX2_fresh_1 4 rfl rfl)
theorem dX2_fresh_27 : decode cX2_fresh 27 = .ok (.areturn, 1) := dk_176 (dk_at dksX2_fresh_1 5 rfl rfl)
abbrev cX2_name : ByteArray := prog_17_method_10_code
def yX2_name : MethodName := ⟨RX2, "name", "()Ljava/lang/String;"⟩
def dkwX2_name_2 : List UInt8 := [182, 0, 47, 191, 43, 176]
abbrev dktX2_name_2 : List UInt8 := dkwX2_name_2 ++ []
def dkwX2_name_1 : List UInt8 := [182, 0, 47, 191, 43, 182, 0, 86, 16, 6, 164, 0, 16, 42, 4, 42, 180, 0, 61, 16, 6, 96]
abbrev dktX2_name_1 : List UInt8 := dkwX2_name_1 ++ dktX2_name_2
def dkwX2_name_0 : List UInt8 := [42, 182, 0, 70, 76, 43, 178, 0, 78, 184, 0, 82, 2, 159, 0, 13, 42, 4, 42, 180, 0, 61]
abbrev dktX2_name_0 : List UInt8 := dkwX2_name_0 ++ dktX2_name_1
theorem dksX2_name_0 : cX2_name.data.toList.drop 0 = dktX2_name_0 := by decide +kernel
theorem dksX2_name_1 : cX2_name.data.toList.drop 22 = dktX2_name_1 := dk_seg dksX2_name_0 22 rfl rfl
theorem dksX2_name_2 : cX2_name.data.toList.drop 44 = dktX2_name_2 := dk_seg dksX2_name_1 22 rfl rfl
theorem dX2_name_0 : decode cX2_name 0 = .ok (.aload_n 0, 1) := dk_42 (dk_at dksX2_name_0 0 rfl rfl)
theorem dX2_name_1 : decode cX2_name 1 = .ok (.invokevirtual 70, 3) := dk_182 0 70 (dk_at dksX2_name_0 1 rfl rfl)
theorem dX2_name_4 : decode cX2_name 4 = .ok (.astore_n 1, 1) := dk_76 (dk_at dksX2_name_0 4 rfl rfl)
theorem dX2_name_5 : decode cX2_name 5 = .ok (.aload_n 1, 1) := dk_43 (dk_at dksX2_name_0 5 rfl rfl)
theorem dX2_name_6 : decode cX2_name 6 = .ok (.getstatic 78, 3) := dk_178 0 78 (dk_at dksX2_name_0 6 rfl rfl)
theorem dX2_name_9 : decode cX2_name 9 = .ok (.invokestatic 82, 3) := dk_184 0 82 (dk_at dksX2_name_0 9 rfl rfl)
theorem dX2_name_12 : decode cX2_name 12 = .ok (.iconst (-1), 1) := dk_2 (dk_at dksX2_name_0 12 rfl rfl)
theorem dX2_name_13 : decode cX2_name 13 = .ok (.if_icmp .eq 13, 3) := dk_159 0 13 (dk_at dksX2_name_0 13 rfl rfl)
theorem dX2_name_16 : decode cX2_name 16 = .ok (.aload_n 0, 1) := dk_42 (dk_at dksX2_name_0 16 rfl rfl)
theorem dX2_name_17 : decode cX2_name 17 = .ok (.iconst 1, 1) := dk_4 (dk_at dksX2_name_0 17 rfl rfl)
theorem dX2_name_18 : decode cX2_name 18 = .ok (.aload_n 0, 1) := dk_42 (dk_at dksX2_name_0 18 rfl rfl)
theorem dX2_name_19 : decode cX2_name 19 = .ok (.getfield 61, 3) := dk_180 0 61 (dk_at dksX2_name_0 19 rfl rfl)
theorem dX2_name_22 : decode cX2_name 22 = .ok (.invokevirtual 47, 3) := dk_182 0 47 (dk_at dksX2_name_1 0 rfl rfl)
theorem dX2_name_25 : decode cX2_name 25 = .ok (.athrow, 1) := dk_191 (dk_at dksX2_name_1 3 rfl rfl)
theorem dX2_name_26 : decode cX2_name 26 = .ok (.aload_n 1, 1) := dk_43 (dk_at dksX2_name_1 4 rfl rfl)
theorem dX2_name_27 : decode cX2_name 27 = .ok (.invokevirtual 86, 3) := dk_182 0 86 (dk_at dksX2_name_1 5 rfl rfl)
theorem dX2_name_30 : decode cX2_name 30 = .ok (.bipush 6, 2) := dk_16 6 (dk_at dksX2_name_1 8 rfl rfl)
theorem dX2_name_32 : decode cX2_name 32 = .ok (.if_icmp .le 16, 3) := dk_164 0 16 (dk_at dksX2_name_1 10 rfl rfl)
theorem dX2_name_35 : decode cX2_name 35 = .ok (.aload_n 0, 1) := dk_42 (dk_at dksX2_name_1 13 rfl rfl)
theorem dX2_name_36 : decode cX2_name 36 = .ok (.iconst 1, 1) := dk_4 (dk_at dksX2_name_1 14 rfl rfl)
theorem dX2_name_37 : decode cX2_name 37 = .ok (.aload_n 0, 1) := dk_42 (dk_at dksX2_name_1 15 rfl rfl)
theorem dX2_name_38 : decode cX2_name 38 = .ok (.getfield 61, 3) := dk_180 0 61 (dk_at dksX2_name_1 16 rfl rfl)
theorem dX2_name_41 : decode cX2_name 41 = .ok (.bipush 6, 2) := dk_16 6 (dk_at dksX2_name_1 19 rfl rfl)
theorem dX2_name_43 : decode cX2_name 43 = .ok (.iadd, 1) := dk_96 (dk_at dksX2_name_1 21 rfl rfl)
theorem dX2_name_44 : decode cX2_name 44 = .ok (.invokevirtual 47, 3) := dk_182 0 47 (dk_at dksX2_name_2 0 rfl rfl)
theorem dX2_name_47 : decode cX2_name 47 = .ok (.athrow, 1) := dk_191 (dk_at dksX2_name_2 3 rfl rfl)
theorem dX2_name_48 : decode cX2_name 48 = .ok (.aload_n 1, 1) := dk_43 (dk_at dksX2_name_2 4 rfl rfl)
theorem dX2_name_49 : decode cX2_name 49 = .ok (.areturn, 1) := dk_176 (dk_at dksX2_name_2 5 rfl rfl)
abbrev cX2_readsDoor : ByteArray := prog_17_method_17_code
def yX2_readsDoor : MethodName := ⟨RX2, "readsDoor", "(I)V"⟩
def dkwX2_readsDoor_3 : List UInt8 := [42, 18, 159, 4, 16, 9, 182, 0, 161, 183, 0, 164, 185, 0, 167, 2, 0, 87, 177]
abbrev dktX2_readsDoor_3 : List UInt8 := dkwX2_readsDoor_3 ++ []
def dkwX2_readsDoor_2 : List UInt8 := [180, 0, 103, 180, 0, 149, 28, 182, 0, 152, 62, 42, 180, 0, 103, 180, 0, 141, 187, 0, 157, 89, 28, 29]
abbrev dktX2_readsDoor_2 : List UInt8 := dkwX2_readsDoor_2 ++ dktX2_readsDoor_3
def dkwX2_readsDoor_1 : List UInt8 := [182, 0, 125, 42, 42, 180, 0, 103, 180, 0, 149, 2, 182, 0, 152, 61, 42, 18, 156, 182, 0, 93, 42, 42]
abbrev dktX2_readsDoor_1 : List UInt8 := dkwX2_readsDoor_1 ++ dktX2_readsDoor_2
def dkwX2_readsDoor_0 : List UInt8 := [42, 42, 180, 0, 103, 180, 0, 141, 185, 0, 145, 1, 0, 16, 12, 160, 0, 7, 4, 167, 0, 4, 3, 27]
abbrev dktX2_readsDoor_0 : List UInt8 := dkwX2_readsDoor_0 ++ dktX2_readsDoor_1
theorem dksX2_readsDoor_0 : cX2_readsDoor.data.toList.drop 0 = dktX2_readsDoor_0 := by decide +kernel
theorem dksX2_readsDoor_1 : cX2_readsDoor.data.toList.drop 24 = dktX2_readsDoor_1 := dk_seg dksX2_readsDoor_0 24 rfl rfl
theorem dksX2_readsDoor_2 : cX2_readsDoor.data.toList.drop 48 = dktX2_readsDoor_2 := dk_seg dksX2_readsDoor_1 24 rfl rfl
theorem dksX2_readsDoor_3 : cX2_readsDoor.data.toList.drop 72 = dktX2_readsDoor_3 := dk_seg dksX2_readsDoor_2 24 rfl rfl
theorem dX2_readsDoor_0 : decode cX2_readsDoor 0 = .ok (.aload_n 0, 1) := dk_42 (dk_at dksX2_readsDoor_0 0 rfl rfl)
theorem dX2_readsDoor_1 : decode cX2_readsDoor 1 = .ok (.aload_n 0, 1) := dk_42 (dk_at dksX2_readsDoor_0 1 rfl rfl)
theorem dX2_readsDoor_2 : decode cX2_readsDoor 2 = .ok (.getfield 103, 3) := dk_180 0 103 (dk_at dksX2_readsDoor_0 2 rfl rfl)
theorem dX2_readsDoor_5 : decode cX2_readsDoor 5 = .ok (.getfield 141, 3) := dk_180 0 141 (dk_at dksX2_readsDoor_0 5 rfl rfl)
theorem dX2_readsDoor_8 : decode cX2_readsDoor 8 = .ok (.invokeinterface 145 1, 5) := by decide +kernel
theorem dX2_readsDoor_13 : decode cX2_readsDoor 13 = .ok (.bipush 12, 2) := dk_16 12 (dk_at dksX2_readsDoor_0 13 rfl rfl)
theorem dX2_readsDoor_15 : decode cX2_readsDoor 15 = .ok (.if_icmp .ne 7, 3) := dk_160 0 7 (dk_at dksX2_readsDoor_0 15 rfl rfl)
theorem dX2_readsDoor_18 : decode cX2_readsDoor 18 = .ok (.iconst 1, 1) := dk_4 (dk_at dksX2_readsDoor_0 18 rfl rfl)
theorem dX2_readsDoor_19 : decode cX2_readsDoor 19 = .ok (.goto 4, 3) := dk_167 0 4 (dk_at dksX2_readsDoor_0 19 rfl rfl)
theorem dX2_readsDoor_22 : decode cX2_readsDoor 22 = .ok (.iconst 0, 1) := dk_3 (dk_at dksX2_readsDoor_0 22 rfl rfl)
theorem dX2_readsDoor_23 : decode cX2_readsDoor 23 = .ok (.iload_n 1, 1) := dk_27 (dk_at dksX2_readsDoor_0 23 rfl rfl)
theorem dX2_readsDoor_24 : decode cX2_readsDoor 24 = .ok (.invokevirtual 125, 3) := dk_182 0 125 (dk_at dksX2_readsDoor_1 0 rfl rfl)
theorem dX2_readsDoor_27 : decode cX2_readsDoor 27 = .ok (.aload_n 0, 1) := dk_42 (dk_at dksX2_readsDoor_1 3 rfl rfl)
theorem dX2_readsDoor_28 : decode cX2_readsDoor 28 = .ok (.aload_n 0, 1) := dk_42 (dk_at dksX2_readsDoor_1 4 rfl rfl)
theorem dX2_readsDoor_29 : decode cX2_readsDoor 29 = .ok (.getfield 103, 3) := dk_180 0 103 (dk_at dksX2_readsDoor_1 5 rfl rfl)
theorem dX2_readsDoor_32 : decode cX2_readsDoor 32 = .ok (.getfield 149, 3) := dk_180 0 149 (dk_at dksX2_readsDoor_1 8 rfl rfl)
theorem dX2_readsDoor_35 : decode cX2_readsDoor 35 = .ok (.iconst (-1), 1) := dk_2 (dk_at dksX2_readsDoor_1 11 rfl rfl)
theorem dX2_readsDoor_36 : decode cX2_readsDoor 36 = .ok (.invokevirtual 152, 3) := dk_182 0 152 (dk_at dksX2_readsDoor_1 12 rfl rfl)
theorem dX2_readsDoor_39 : decode cX2_readsDoor 39 = .ok (.istore_n 2, 1) := dk_61 (dk_at dksX2_readsDoor_1 15 rfl rfl)
theorem dX2_readsDoor_40 : decode cX2_readsDoor 40 = .ok (.aload_n 0, 1) := dk_42 (dk_at dksX2_readsDoor_1 16 rfl rfl)
theorem dX2_readsDoor_41 : decode cX2_readsDoor 41 = .ok (.ldc 156, 2) := dk_18 156 (dk_at dksX2_readsDoor_1 17 rfl rfl)
theorem dX2_readsDoor_43 : decode cX2_readsDoor 43 = .ok (.invokevirtual 93, 3) := dk_182 0 93 (dk_at dksX2_readsDoor_1 19 rfl rfl)
theorem dX2_readsDoor_46 : decode cX2_readsDoor 46 = .ok (.aload_n 0, 1) := dk_42 (dk_at dksX2_readsDoor_1 22 rfl rfl)
theorem dX2_readsDoor_47 : decode cX2_readsDoor 47 = .ok (.aload_n 0, 1) := dk_42 (dk_at dksX2_readsDoor_1 23 rfl rfl)
theorem dX2_readsDoor_48 : decode cX2_readsDoor 48 = .ok (.getfield 103, 3) := dk_180 0 103 (dk_at dksX2_readsDoor_2 0 rfl rfl)
theorem dX2_readsDoor_51 : decode cX2_readsDoor 51 = .ok (.getfield 149, 3) := dk_180 0 149 (dk_at dksX2_readsDoor_2 3 rfl rfl)
theorem dX2_readsDoor_54 : decode cX2_readsDoor 54 = .ok (.iload_n 2, 1) := dk_28 (dk_at dksX2_readsDoor_2 6 rfl rfl)
theorem dX2_readsDoor_55 : decode cX2_readsDoor 55 = .ok (.invokevirtual 152, 3) := dk_182 0 152 (dk_at dksX2_readsDoor_2 7 rfl rfl)
theorem dX2_readsDoor_58 : decode cX2_readsDoor 58 = .ok (.istore_n 3, 1) := dk_62 (dk_at dksX2_readsDoor_2 10 rfl rfl)
theorem dX2_readsDoor_59 : decode cX2_readsDoor 59 = .ok (.aload_n 0, 1) := dk_42 (dk_at dksX2_readsDoor_2 11 rfl rfl)
theorem dX2_readsDoor_60 : decode cX2_readsDoor 60 = .ok (.getfield 103, 3) := dk_180 0 103 (dk_at dksX2_readsDoor_2 12 rfl rfl)
theorem dX2_readsDoor_63 : decode cX2_readsDoor 63 = .ok (.getfield 141, 3) := dk_180 0 141 (dk_at dksX2_readsDoor_2 15 rfl rfl)
theorem dX2_readsDoor_66 : decode cX2_readsDoor 66 = .ok (.new 157, 3) := dk_187 0 157 (dk_at dksX2_readsDoor_2 18 rfl rfl)
theorem dX2_readsDoor_69 : decode cX2_readsDoor 69 = .ok (.dup, 1) := dk_89 (dk_at dksX2_readsDoor_2 21 rfl rfl)
theorem dX2_readsDoor_70 : decode cX2_readsDoor 70 = .ok (.iload_n 2, 1) := dk_28 (dk_at dksX2_readsDoor_2 22 rfl rfl)
theorem dX2_readsDoor_71 : decode cX2_readsDoor 71 = .ok (.iload_n 3, 1) := dk_29 (dk_at dksX2_readsDoor_2 23 rfl rfl)
theorem dX2_readsDoor_72 : decode cX2_readsDoor 72 = .ok (.aload_n 0, 1) := dk_42 (dk_at dksX2_readsDoor_3 0 rfl rfl)
theorem dX2_readsDoor_73 : decode cX2_readsDoor 73 = .ok (.ldc 159, 2) := dk_18 159 (dk_at dksX2_readsDoor_3 1 rfl rfl)
theorem dX2_readsDoor_75 : decode cX2_readsDoor 75 = .ok (.iconst 1, 1) := dk_4 (dk_at dksX2_readsDoor_3 3 rfl rfl)
theorem dX2_readsDoor_76 : decode cX2_readsDoor 76 = .ok (.bipush 9, 2) := dk_16 9 (dk_at dksX2_readsDoor_3 4 rfl rfl)
theorem dX2_readsDoor_78 : decode cX2_readsDoor 78 = .ok (.invokevirtual 161, 3) := dk_182 0 161 (dk_at dksX2_readsDoor_3 6 rfl rfl)
theorem dX2_readsDoor_81 : decode cX2_readsDoor 81 = .ok (.invokespecial 164, 3) := dk_183 0 164 (dk_at dksX2_readsDoor_3 9 rfl rfl)
theorem dX2_readsDoor_84 : decode cX2_readsDoor 84 = .ok (.invokeinterface 167 2, 5) := by decide +kernel
theorem dX2_readsDoor_89 : decode cX2_readsDoor 89 = .ok (.pop, 1) := dk_87 (dk_at dksX2_readsDoor_3 17 rfl rfl)
theorem dX2_readsDoor_90 : decode cX2_readsDoor 90 = .ok (.return_, 1) := dk_177 (dk_at dksX2_readsDoor_3 18 rfl rfl)
abbrev cX2_known : ByteArray := prog_17_method_14_code
def yX2_known : MethodName := ⟨RX2, "known", "(Ljava/util/List;I)I"⟩
def dkwX2_known_1 : List UInt8 := [180, 0, 61, 182, 0, 47, 191, 29, 172]
abbrev dktX2_known_1 : List UInt8 := dkwX2_known_1 ++ []
def dkwX2_known_0 : List UInt8 := [43, 42, 182, 0, 100, 184, 0, 113, 62, 29, 2, 159, 0, 8, 29, 28, 160, 0, 13, 42, 6, 42]
abbrev dktX2_known_0 : List UInt8 := dkwX2_known_0 ++ dktX2_known_1
theorem dksX2_known_0 : cX2_known.data.toList.drop 0 = dktX2_known_0 := by decide +kernel
theorem dksX2_known_1 : cX2_known.data.toList.drop 22 = dktX2_known_1 := dk_seg dksX2_known_0 22 rfl rfl
theorem dX2_known_0 : decode cX2_known 0 = .ok (.aload_n 1, 1) := dk_43 (dk_at dksX2_known_0 0 rfl rfl)
theorem dX2_known_1 : decode cX2_known 1 = .ok (.aload_n 0, 1) := dk_42 (dk_at dksX2_known_0 1 rfl rfl)
theorem dX2_known_2 : decode cX2_known 2 = .ok (.invokevirtual 100, 3) := dk_182 0 100 (dk_at dksX2_known_0 2 rfl rfl)
theorem dX2_known_5 : decode cX2_known 5 = .ok (.invokestatic 113, 3) := dk_184 0 113 (dk_at dksX2_known_0 5 rfl rfl)
theorem dX2_known_8 : decode cX2_known 8 = .ok (.istore_n 3, 1) := dk_62 (dk_at dksX2_known_0 8 rfl rfl)
theorem dX2_known_9 : decode cX2_known 9 = .ok (.iload_n 3, 1) := dk_29 (dk_at dksX2_known_0 9 rfl rfl)
theorem dX2_known_10 : decode cX2_known 10 = .ok (.iconst (-1), 1) := dk_2 (dk_at dksX2_known_0 10 rfl rfl)
theorem dX2_known_11 : decode cX2_known 11 = .ok (.if_icmp .eq 8, 3) := dk_159 0 8 (dk_at dksX2_known_0 11 rfl rfl)
theorem dX2_known_14 : decode cX2_known 14 = .ok (.iload_n 3, 1) := dk_29 (dk_at dksX2_known_0 14 rfl rfl)
theorem dX2_known_15 : decode cX2_known 15 = .ok (.iload_n 2, 1) := dk_28 (dk_at dksX2_known_0 15 rfl rfl)
theorem dX2_known_16 : decode cX2_known 16 = .ok (.if_icmp .ne 13, 3) := dk_160 0 13 (dk_at dksX2_known_0 16 rfl rfl)
theorem dX2_known_19 : decode cX2_known 19 = .ok (.aload_n 0, 1) := dk_42 (dk_at dksX2_known_0 19 rfl rfl)
theorem dX2_known_20 : decode cX2_known 20 = .ok (.iconst 3, 1) := dk_6 (dk_at dksX2_known_0 20 rfl rfl)
theorem dX2_known_21 : decode cX2_known 21 = .ok (.aload_n 0, 1) := dk_42 (dk_at dksX2_known_0 21 rfl rfl)
theorem dX2_known_22 : decode cX2_known 22 = .ok (.getfield 61, 3) := dk_180 0 61 (dk_at dksX2_known_1 0 rfl rfl)
theorem dX2_known_25 : decode cX2_known 25 = .ok (.invokevirtual 47, 3) := dk_182 0 47 (dk_at dksX2_known_1 3 rfl rfl)
theorem dX2_known_28 : decode cX2_known 28 = .ok (.athrow, 1) := dk_191 (dk_at dksX2_known_1 6 rfl rfl)
theorem dX2_known_29 : decode cX2_known 29 = .ok (.iload_n 3, 1) := dk_29 (dk_at dksX2_known_1 7 rfl rfl)
theorem dX2_known_30 : decode cX2_known 30 = .ok (.ireturn, 1) := dk_172 (dk_at dksX2_known_1 8 rfl rfl)
abbrev cX2_word_2 : ByteArray := prog_17_method_8_code
def yX2_word_2 : MethodName := ⟨RX2, "word", "(Ljava/lang/String;)V"⟩
def dkwX2_word_2_0 : List UInt8 := [42, 182, 0, 70, 43, 182, 0, 74, 154, 0, 13, 42, 4, 42, 180, 0, 61, 182, 0, 47, 191, 177]
abbrev dktX2_word_2_0 : List UInt8 := dkwX2_word_2_0 ++ []
theorem dksX2_word_2_0 : cX2_word_2.data.toList.drop 0 = dktX2_word_2_0 := by decide +kernel
theorem dX2_word_2_0 : decode cX2_word_2 0 = .ok (.aload_n 0, 1) := dk_42 (dk_at dksX2_word_2_0 0 rfl rfl)
theorem dX2_word_2_1 : decode cX2_word_2 1 = .ok (.invokevirtual 70, 3) := dk_182 0 70 (dk_at dksX2_word_2_0 1 rfl rfl)
theorem dX2_word_2_4 : decode cX2_word_2 4 = .ok (.aload_n 1, 1) := dk_43 (dk_at dksX2_word_2_0 4 rfl rfl)
theorem dX2_word_2_5 : decode cX2_word_2 5 = .ok (.invokevirtual 74, 3) := dk_182 0 74 (dk_at dksX2_word_2_0 5 rfl rfl)
theorem dX2_word_2_8 : decode cX2_word_2 8 = .ok (.ifCond .ne 13, 3) := dk_154 0 13 (dk_at dksX2_word_2_0 8 rfl rfl)
theorem dX2_word_2_11 : decode cX2_word_2 11 = .ok (.aload_n 0, 1) := dk_42 (dk_at dksX2_word_2_0 11 rfl rfl)
theorem dX2_word_2_12 : decode cX2_word_2 12 = .ok (.iconst 1, 1) := dk_4 (dk_at dksX2_word_2_0 12 rfl rfl)
theorem dX2_word_2_13 : decode cX2_word_2 13 = .ok (.aload_n 0, 1) := dk_42 (dk_at dksX2_word_2_0 13 rfl rfl)
theorem dX2_word_2_14 : decode cX2_word_2 14 = .ok (.getfield 61, 3) := dk_180 0 61 (dk_at dksX2_word_2_0 14 rfl rfl)
theorem dX2_word_2_17 : decode cX2_word_2 17 = .ok (.invokevirtual 47, 3) := dk_182 0 47 (dk_at dksX2_word_2_0 17 rfl rfl)
theorem dX2_word_2_20 : decode cX2_word_2 20 = .ok (.athrow, 1) := dk_191 (dk_at dksX2_word_2_0 20 rfl rfl)
theorem dX2_word_2_21 : decode cX2_word_2 21 = .ok (.return_, 1) := dk_177 (dk_at dksX2_word_2_0 21 rfl rfl)
abbrev cX2_number : ByteArray := prog_17_method_12_code
def yX2_number : MethodName := ⟨RX2, "number", "(Ljava/lang/String;II)I"⟩
def dkwX2_number_0 : List UInt8 := [42, 43, 182, 0, 93, 42, 28, 29, 182, 0, 96, 172]
abbrev dktX2_number_0 : List UInt8 := dkwX2_number_0 ++ []
theorem dksX2_number_0 : cX2_number.data.toList.drop 0 = dktX2_number_0 := by decide +kernel
theorem dX2_number_0 : decode cX2_number 0 = .ok (.aload_n 0, 1) := dk_42 (dk_at dksX2_number_0 0 rfl rfl)
theorem dX2_number_1 : decode cX2_number 1 = .ok (.aload_n 1, 1) := dk_43 (dk_at dksX2_number_0 1 rfl rfl)
theorem dX2_number_2 : decode cX2_number 2 = .ok (.invokevirtual 93, 3) := dk_182 0 93 (dk_at dksX2_number_0 2 rfl rfl)
theorem dX2_number_5 : decode cX2_number 5 = .ok (.aload_n 0, 1) := dk_42 (dk_at dksX2_number_0 5 rfl rfl)
theorem dX2_number_6 : decode cX2_number 6 = .ok (.iload_n 2, 1) := dk_28 (dk_at dksX2_number_0 6 rfl rfl)
theorem dX2_number_7 : decode cX2_number 7 = .ok (.iload_n 3, 1) := dk_29 (dk_at dksX2_number_0 7 rfl rfl)
theorem dX2_number_8 : decode cX2_number 8 = .ok (.invokevirtual 96, 3) := dk_182 0 96 (dk_at dksX2_number_0 8 rfl rfl)
theorem dX2_number_11 : decode cX2_number 11 = .ok (.ireturn, 1) := dk_172 (dk_at dksX2_number_0 11 rfl rfl)
abbrev cX2_number_2 : ByteArray := prog_17_method_11_code
def yX2_number_2 : MethodName := ⟨RX2, "number", "(II)I"⟩
def dkwX2_number_2_5 : List UInt8 := [191, 29, 172]
abbrev dktX2_number_2_5 : List UInt8 := dkwX2_number_2_5 ++ []
def dkwX2_number_2_4 : List UInt8 := [181, 0, 36, 167, 255, 192, 29, 27, 28, 184, 0, 89, 154, 0, 13, 42, 5, 42, 180, 0, 61, 182, 0, 47]
abbrev dktX2_number_2_4 : List UInt8 := dkwX2_number_2_4 ++ dktX2_number_2_5
def dkwX2_number_2_3 : List UInt8 := [16, 10, 29, 104, 42, 42, 180, 0, 36, 182, 0, 39, 96, 16, 48, 100, 62, 42, 89, 180, 0, 36, 4, 96]
abbrev dktX2_number_2_3 : List UInt8 := dkwX2_number_2_3 ++ dktX2_number_2_4
def dkwX2_number_2_2 : List UInt8 := [42, 180, 0, 36, 42, 180, 0, 61, 100, 7, 160, 0, 13, 42, 4, 42, 180, 0, 36, 182, 0, 47, 191]
abbrev dktX2_number_2_2 : List UInt8 := dkwX2_number_2_2 ++ dktX2_number_2_3
def dkwX2_number_2_1 : List UInt8 := [42, 42, 180, 0, 36, 181, 0, 61, 3, 62, 42, 42, 180, 0, 36, 182, 0, 39, 184, 0, 55, 153, 0, 56]
abbrev dktX2_number_2_1 : List UInt8 := dkwX2_number_2_1 ++ dktX2_number_2_2
def dkwX2_number_2_0 : List UInt8 := [42, 182, 0, 43, 184, 0, 55, 154, 0, 13, 42, 4, 42, 180, 0, 36, 182, 0, 47, 191, 42, 182, 0, 58]
abbrev dktX2_number_2_0 : List UInt8 := dkwX2_number_2_0 ++ dktX2_number_2_1
theorem dksX2_number_2_0 : cX2_number_2.data.toList.drop 0 = dktX2_number_2_0 := by decide +kernel
theorem dksX2_number_2_1 : cX2_number_2.data.toList.drop 24 = dktX2_number_2_1 := dk_seg dksX2_number_2_0 24 rfl rfl
theorem dksX2_number_2_2 : cX2_number_2.data.toList.drop 48 = dktX2_number_2_2 := dk_seg dksX2_number_2_1 24 rfl rfl
theorem dksX2_number_2_3 : cX2_number_2.data.toList.drop 71 = dktX2_number_2_3 := dk_seg dksX2_number_2_2 23 rfl rfl
theorem dksX2_number_2_4 : cX2_number_2.data.toList.drop 95 = dktX2_number_2_4 := dk_seg dksX2_number_2_3 24 rfl rfl
theorem dksX2_number_2_5 : cX2_number_2.data.toList.drop 119 = dktX2_number_2_5 := dk_seg dksX2_number_2_4 24 rfl rfl
theorem dX2_number_2_0 : decode cX2_number_2 0 = .ok (.aload_n 0, 1) := dk_42 (dk_at dksX2_number_2_0 0 rfl rfl)
theorem dX2_number_2_1 : decode cX2_number_2 1 = .ok (.invokevirtual 43, 3) := dk_182 0 43 (dk_at dksX2_number_2_0 1 rfl rfl)
theorem dX2_number_2_4 : decode cX2_number_2 4 = .ok (.invokestatic 55, 3) := dk_184 0 55 (dk_at dksX2_number_2_0 4 rfl rfl)
theorem dX2_number_2_7 : decode cX2_number_2 7 = .ok (.ifCond .ne 13, 3) := dk_154 0 13 (dk_at dksX2_number_2_0 7 rfl rfl)
theorem dX2_number_2_10 : decode cX2_number_2 10 = .ok (.aload_n 0, 1) := dk_42 (dk_at dksX2_number_2_0 10 rfl rfl)
theorem dX2_number_2_11 : decode cX2_number_2 11 = .ok (.iconst 1, 1) := dk_4 (dk_at dksX2_number_2_0 11 rfl rfl)
theorem dX2_number_2_12 : decode cX2_number_2 12 = .ok (.aload_n 0, 1) := dk_42 (dk_at dksX2_number_2_0 12 rfl rfl)
theorem dX2_number_2_13 : decode cX2_number_2 13 = .ok (.getfield 36, 3) := dk_180 0 36 (dk_at dksX2_number_2_0 13 rfl rfl)
theorem dX2_number_2_16 : decode cX2_number_2 16 = .ok (.invokevirtual 47, 3) := dk_182 0 47 (dk_at dksX2_number_2_0 16 rfl rfl)
theorem dX2_number_2_19 : decode cX2_number_2 19 = .ok (.athrow, 1) := dk_191 (dk_at dksX2_number_2_0 19 rfl rfl)
theorem dX2_number_2_20 : decode cX2_number_2 20 = .ok (.aload_n 0, 1) := dk_42 (dk_at dksX2_number_2_0 20 rfl rfl)
theorem dX2_number_2_21 : decode cX2_number_2 21 = .ok (.invokevirtual 58, 3) := dk_182 0 58 (dk_at dksX2_number_2_0 21 rfl rfl)
theorem dX2_number_2_24 : decode cX2_number_2 24 = .ok (.aload_n 0, 1) := dk_42 (dk_at dksX2_number_2_1 0 rfl rfl)
theorem dX2_number_2_25 : decode cX2_number_2 25 = .ok (.aload_n 0, 1) := dk_42 (dk_at dksX2_number_2_1 1 rfl rfl)
theorem dX2_number_2_26 : decode cX2_number_2 26 = .ok (.getfield 36, 3) := dk_180 0 36 (dk_at dksX2_number_2_1 2 rfl rfl)
theorem dX2_number_2_29 : decode cX2_number_2 29 = .ok (.putfield 61, 3) := dk_181 0 61 (dk_at dksX2_number_2_1 5 rfl rfl)
theorem dX2_number_2_32 : decode cX2_number_2 32 = .ok (.iconst 0, 1) := dk_3 (dk_at dksX2_number_2_1 8 rfl rfl)
theorem dX2_number_2_33 : decode cX2_number_2 33 = .ok (.istore_n 3, 1) := dk_62 (dk_at dksX2_number_2_1 9 rfl rfl)
theorem dX2_number_2_34 : decode cX2_number_2 34 = .ok (.aload_n 0, 1) := dk_42 (dk_at dksX2_number_2_1 10 rfl rfl)
theorem dX2_number_2_35 : decode cX2_number_2 35 = .ok (.aload_n 0, 1) := dk_42 (dk_at dksX2_number_2_1 11 rfl rfl)
theorem dX2_number_2_36 : decode cX2_number_2 36 = .ok (.getfield 36, 3) := dk_180 0 36 (dk_at dksX2_number_2_1 12 rfl rfl)
theorem dX2_number_2_39 : decode cX2_number_2 39 = .ok (.invokevirtual 39, 3) := dk_182 0 39 (dk_at dksX2_number_2_1 15 rfl rfl)
theorem dX2_number_2_42 : decode cX2_number_2 42 = .ok (.invokestatic 55, 3) := dk_184 0 55 (dk_at dksX2_number_2_1 18 rfl rfl)
theorem dX2_number_2_45 : decode cX2_number_2 45 = .ok (.ifCond .eq 56, 3) := dk_153 0 56 (dk_at dksX2_number_2_1 21 rfl rfl)
theorem dX2_number_2_48 : decode cX2_number_2 48 = .ok (.aload_n 0, 1) := dk_42 (dk_at dksX2_number_2_2 0 rfl rfl)
theorem dX2_number_2_49 : decode cX2_number_2 49 = .ok (.getfield 36, 3) := dk_180 0 36 (dk_at dksX2_number_2_2 1 rfl rfl)
theorem dX2_number_2_52 : decode cX2_number_2 52 = .ok (.aload_n 0, 1) := dk_42 (dk_at dksX2_number_2_2 4 rfl rfl)
theorem dX2_number_2_53 : decode cX2_number_2 53 = .ok (.getfield 61, 3) := dk_180 0 61 (dk_at dksX2_number_2_2 5 rfl rfl)
theorem dX2_number_2_56 : decode cX2_number_2 56 = .ok (.isub, 1) := dk_100 (dk_at dksX2_number_2_2 8 rfl rfl)
theorem dX2_number_2_57 : decode cX2_number_2 57 = .ok (.iconst 4, 1) := dk_7 (dk_at dksX2_number_2_2 9 rfl rfl)
theorem dX2_number_2_58 : decode cX2_number_2 58 = .ok (.if_icmp .ne 13, 3) := dk_160 0 13 (dk_at dksX2_number_2_2 10 rfl rfl)
theorem dX2_number_2_61 : decode cX2_number_2 61 = .ok (.aload_n 0, 1) := dk_42 (dk_at dksX2_number_2_2 13 rfl rfl)
theorem dX2_number_2_62 : decode cX2_number_2 62 = .ok (.iconst 1, 1) := dk_4 (dk_at dksX2_number_2_2 14 rfl rfl)
theorem dX2_number_2_63 : decode cX2_number_2 63 = .ok (.aload_n 0, 1) := dk_42 (dk_at dksX2_number_2_2 15 rfl rfl)
theorem dX2_number_2_64 : decode cX2_number_2 64 = .ok (.getfield 36, 3) := dk_180 0 36 (dk_at dksX2_number_2_2 16 rfl rfl)
theorem dX2_number_2_67 : decode cX2_number_2 67 = .ok (.invokevirtual 47, 3) := dk_182 0 47 (dk_at dksX2_number_2_2 19 rfl rfl)
theorem dX2_number_2_70 : decode cX2_number_2 70 = .ok (.athrow, 1) := dk_191 (dk_at dksX2_number_2_2 22 rfl rfl)
theorem dX2_number_2_71 : decode cX2_number_2 71 = .ok (.bipush 10, 2) := dk_16 10 (dk_at dksX2_number_2_3 0 rfl rfl)
theorem dX2_number_2_73 : decode cX2_number_2 73 = .ok (.iload_n 3, 1) := dk_29 (dk_at dksX2_number_2_3 2 rfl rfl)
theorem dX2_number_2_74 : decode cX2_number_2 74 = .ok (.imul, 1) := dk_104 (dk_at dksX2_number_2_3 3 rfl rfl)
theorem dX2_number_2_75 : decode cX2_number_2 75 = .ok (.aload_n 0, 1) := dk_42 (dk_at dksX2_number_2_3 4 rfl rfl)
theorem dX2_number_2_76 : decode cX2_number_2 76 = .ok (.aload_n 0, 1) := dk_42 (dk_at dksX2_number_2_3 5 rfl rfl)
theorem dX2_number_2_77 : decode cX2_number_2 77 = .ok (.getfield 36, 3) := dk_180 0 36 (dk_at dksX2_number_2_3 6 rfl rfl)
theorem dX2_number_2_80 : decode cX2_number_2 80 = .ok (.invokevirtual 39, 3) := dk_182 0 39 (dk_at dksX2_number_2_3 9 rfl rfl)
theorem dX2_number_2_83 : decode cX2_number_2 83 = .ok (.iadd, 1) := dk_96 (dk_at dksX2_number_2_3 12 rfl rfl)
theorem dX2_number_2_84 : decode cX2_number_2 84 = .ok (.bipush 48, 2) := dk_16 48 (dk_at dksX2_number_2_3 13 rfl rfl)
theorem dX2_number_2_86 : decode cX2_number_2 86 = .ok (.isub, 1) := dk_100 (dk_at dksX2_number_2_3 15 rfl rfl)
theorem dX2_number_2_87 : decode cX2_number_2 87 = .ok (.istore_n 3, 1) := dk_62 (dk_at dksX2_number_2_3 16 rfl rfl)
theorem dX2_number_2_88 : decode cX2_number_2 88 = .ok (.aload_n 0, 1) := dk_42 (dk_at dksX2_number_2_3 17 rfl rfl)
theorem dX2_number_2_89 : decode cX2_number_2 89 = .ok (.dup, 1) := dk_89 (dk_at dksX2_number_2_3 18 rfl rfl)
theorem dX2_number_2_90 : decode cX2_number_2 90 = .ok (.getfield 36, 3) := dk_180 0 36 (dk_at dksX2_number_2_3 19 rfl rfl)
theorem dX2_number_2_93 : decode cX2_number_2 93 = .ok (.iconst 1, 1) := dk_4 (dk_at dksX2_number_2_3 22 rfl rfl)
theorem dX2_number_2_94 : decode cX2_number_2 94 = .ok (.iadd, 1) := dk_96 (dk_at dksX2_number_2_3 23 rfl rfl)
theorem dX2_number_2_95 : decode cX2_number_2 95 = .ok (.putfield 36, 3) := dk_181 0 36 (dk_at dksX2_number_2_4 0 rfl rfl)
theorem dX2_number_2_98 : decode cX2_number_2 98 = .ok (.goto (-64), 3) := dk_167 255 192 (dk_at dksX2_number_2_4 3 rfl rfl)
theorem dX2_number_2_101 : decode cX2_number_2 101 = .ok (.iload_n 3, 1) := dk_29 (dk_at dksX2_number_2_4 6 rfl rfl)
theorem dX2_number_2_102 : decode cX2_number_2 102 = .ok (.iload_n 1, 1) := dk_27 (dk_at dksX2_number_2_4 7 rfl rfl)
theorem dX2_number_2_103 : decode cX2_number_2 103 = .ok (.iload_n 2, 1) := dk_28 (dk_at dksX2_number_2_4 8 rfl rfl)
theorem dX2_number_2_104 : decode cX2_number_2 104 = .ok (.invokestatic 89, 3) := dk_184 0 89 (dk_at dksX2_number_2_4 9 rfl rfl)
theorem dX2_number_2_107 : decode cX2_number_2 107 = .ok (.ifCond .ne 13, 3) := dk_154 0 13 (dk_at dksX2_number_2_4 12 rfl rfl)
theorem dX2_number_2_110 : decode cX2_number_2 110 = .ok (.aload_n 0, 1) := dk_42 (dk_at dksX2_number_2_4 15 rfl rfl)
theorem dX2_number_2_111 : decode cX2_number_2 111 = .ok (.iconst 2, 1) := dk_5 (dk_at dksX2_number_2_4 16 rfl rfl)
theorem dX2_number_2_112 : decode cX2_number_2 112 = .ok (.aload_n 0, 1) := dk_42 (dk_at dksX2_number_2_4 17 rfl rfl)
theorem dX2_number_2_113 : decode cX2_number_2 113 = .ok (.getfield 61, 3) := dk_180 0 61 (dk_at dksX2_number_2_4 18 rfl rfl)
theorem dX2_number_2_116 : decode cX2_number_2 116 = .ok (.invokevirtual 47, 3) := dk_182 0 47 (dk_at dksX2_number_2_4 21 rfl rfl)
theorem dX2_number_2_119 : decode cX2_number_2 119 = .ok (.athrow, 1) := dk_191 (dk_at dksX2_number_2_5 0 rfl rfl)
theorem dX2_number_2_120 : decode cX2_number_2 120 = .ok (.iload_n 3, 1) := dk_29 (dk_at dksX2_number_2_5 1 rfl rfl)
theorem dX2_number_2_121 : decode cX2_number_2 121 = .ok (.ireturn, 1) := dk_172 (dk_at dksX2_number_2_5 2 rfl rfl)
abbrev cX2_readsThing : ByteArray := prog_17_method_18_code
def yX2_readsThing : MethodName := ⟨RX2, "readsThing", "(I)V"⟩
def dkwX2_readsThing_4 : List UInt8 := [185, 0, 167, 2, 0, 87, 177]
abbrev dktX2_readsThing_4 : List UInt8 := dkwX2_readsThing_4 ++ []
def dkwX2_readsThing_3 : List UInt8 := [187, 0, 180, 89, 44, 29, 21, 4, 42, 18, 182, 3, 16, 9, 182, 0, 161, 183, 0, 184]
abbrev dktX2_readsThing_3 : List UInt8 := dkwX2_readsThing_3 ++ dktX2_readsThing_4
def dkwX2_readsThing_2 : List UInt8 := [182, 0, 152, 62, 42, 18, 178, 4, 16, 99, 182, 0, 161, 54, 4, 42, 180, 0, 103, 180, 0, 170]
abbrev dktX2_readsThing_2 : List UInt8 := dkwX2_readsThing_2 ++ dktX2_readsThing_3
def dkwX2_readsThing_1 : List UInt8 := [182, 0, 125, 42, 182, 0, 173, 77, 42, 18, 176, 182, 0, 93, 42, 42, 180, 0, 103, 180, 0, 149, 2]
abbrev dktX2_readsThing_1 : List UInt8 := dkwX2_readsThing_1 ++ dktX2_readsThing_2
def dkwX2_readsThing_0 : List UInt8 := [42, 42, 180, 0, 103, 180, 0, 170, 185, 0, 145, 1, 0, 16, 8, 160, 0, 7, 4, 167, 0, 4, 3, 27]
abbrev dktX2_readsThing_0 : List UInt8 := dkwX2_readsThing_0 ++ dktX2_readsThing_1
theorem dksX2_readsThing_0 : cX2_readsThing.data.toList.drop 0 = dktX2_readsThing_0 := by decide +kernel
theorem dksX2_readsThing_1 : cX2_readsThing.data.toList.drop 24 = dktX2_readsThing_1 := dk_seg dksX2_readsThing_0 24 rfl rfl
theorem dksX2_readsThing_2 : cX2_readsThing.data.toList.drop 47 = dktX2_readsThing_2 := dk_seg dksX2_readsThing_1 23 rfl rfl
theorem dksX2_readsThing_3 : cX2_readsThing.data.toList.drop 69 = dktX2_readsThing_3 := dk_seg dksX2_readsThing_2 22 rfl rfl
theorem dksX2_readsThing_4 : cX2_readsThing.data.toList.drop 89 = dktX2_readsThing_4 := dk_seg dksX2_readsThing_3 20 rfl rfl
theorem dX2_readsThing_0 : decode cX2_readsThing 0 = .ok (.aload_n 0, 1) := dk_42 (dk_at dksX2_readsThing_0 0 rfl rfl)
theorem dX2_readsThing_1 : decode cX2_readsThing 1 = .ok (.aload_n 0, 1) := dk_42 (dk_at dksX2_readsThing_0 1 rfl rfl)
theorem dX2_readsThing_2 : decode cX2_readsThing 2 = .ok (.getfield 103, 3) := dk_180 0 103 (dk_at dksX2_readsThing_0 2 rfl rfl)
theorem dX2_readsThing_5 : decode cX2_readsThing 5 = .ok (.getfield 170, 3) := dk_180 0 170 (dk_at dksX2_readsThing_0 5 rfl rfl)
theorem dX2_readsThing_8 : decode cX2_readsThing 8 = .ok (.invokeinterface 145 1, 5) := by decide +kernel
theorem dX2_readsThing_13 : decode cX2_readsThing 13 = .ok (.bipush 8, 2) := dk_16 8 (dk_at dksX2_readsThing_0 13 rfl rfl)
theorem dX2_readsThing_15 : decode cX2_readsThing 15 = .ok (.if_icmp .ne 7, 3) := dk_160 0 7 (dk_at dksX2_readsThing_0 15 rfl rfl)
theorem dX2_readsThing_18 : decode cX2_readsThing 18 = .ok (.iconst 1, 1) := dk_4 (dk_at dksX2_readsThing_0 18 rfl rfl)
theorem dX2_readsThing_19 : decode cX2_readsThing 19 = .ok (.goto 4, 3) := dk_167 0 4 (dk_at dksX2_readsThing_0 19 rfl rfl)
theorem dX2_readsThing_22 : decode cX2_readsThing 22 = .ok (.iconst 0, 1) := dk_3 (dk_at dksX2_readsThing_0 22 rfl rfl)
theorem dX2_readsThing_23 : decode cX2_readsThing 23 = .ok (.iload_n 1, 1) := dk_27 (dk_at dksX2_readsThing_0 23 rfl rfl)
theorem dX2_readsThing_24 : decode cX2_readsThing 24 = .ok (.invokevirtual 125, 3) := dk_182 0 125 (dk_at dksX2_readsThing_1 0 rfl rfl)
theorem dX2_readsThing_27 : decode cX2_readsThing 27 = .ok (.aload_n 0, 1) := dk_42 (dk_at dksX2_readsThing_1 3 rfl rfl)
theorem dX2_readsThing_28 : decode cX2_readsThing 28 = .ok (.invokevirtual 173, 3) := dk_182 0 173 (dk_at dksX2_readsThing_1 4 rfl rfl)
theorem dX2_readsThing_31 : decode cX2_readsThing 31 = .ok (.astore_n 2, 1) := dk_77 (dk_at dksX2_readsThing_1 7 rfl rfl)
theorem dX2_readsThing_32 : decode cX2_readsThing 32 = .ok (.aload_n 0, 1) := dk_42 (dk_at dksX2_readsThing_1 8 rfl rfl)
theorem dX2_readsThing_33 : decode cX2_readsThing 33 = .ok (.ldc 176, 2) := dk_18 176 (dk_at dksX2_readsThing_1 9 rfl rfl)
theorem dX2_readsThing_35 : decode cX2_readsThing 35 = .ok (.invokevirtual 93, 3) := dk_182 0 93 (dk_at dksX2_readsThing_1 11 rfl rfl)
theorem dX2_readsThing_38 : decode cX2_readsThing 38 = .ok (.aload_n 0, 1) := dk_42 (dk_at dksX2_readsThing_1 14 rfl rfl)
theorem dX2_readsThing_39 : decode cX2_readsThing 39 = .ok (.aload_n 0, 1) := dk_42 (dk_at dksX2_readsThing_1 15 rfl rfl)
theorem dX2_readsThing_40 : decode cX2_readsThing 40 = .ok (.getfield 103, 3) := dk_180 0 103 (dk_at dksX2_readsThing_1 16 rfl rfl)
theorem dX2_readsThing_43 : decode cX2_readsThing 43 = .ok (.getfield 149, 3) := dk_180 0 149 (dk_at dksX2_readsThing_1 19 rfl rfl)
theorem dX2_readsThing_46 : decode cX2_readsThing 46 = .ok (.iconst (-1), 1) := dk_2 (dk_at dksX2_readsThing_1 22 rfl rfl)
theorem dX2_readsThing_47 : decode cX2_readsThing 47 = .ok (.invokevirtual 152, 3) := dk_182 0 152 (dk_at dksX2_readsThing_2 0 rfl rfl)
theorem dX2_readsThing_50 : decode cX2_readsThing 50 = .ok (.istore_n 3, 1) := dk_62 (dk_at dksX2_readsThing_2 3 rfl rfl)
theorem dX2_readsThing_51 : decode cX2_readsThing 51 = .ok (.aload_n 0, 1) := dk_42 (dk_at dksX2_readsThing_2 4 rfl rfl)
theorem dX2_readsThing_52 : decode cX2_readsThing 52 = .ok (.ldc 178, 2) := dk_18 178 (dk_at dksX2_readsThing_2 5 rfl rfl)
theorem dX2_readsThing_54 : decode cX2_readsThing 54 = .ok (.iconst 1, 1) := dk_4 (dk_at dksX2_readsThing_2 7 rfl rfl)
theorem dX2_readsThing_55 : decode cX2_readsThing 55 = .ok (.bipush 99, 2) := dk_16 99 (dk_at dksX2_readsThing_2 8 rfl rfl)
theorem dX2_readsThing_57 : decode cX2_readsThing 57 = .ok (.invokevirtual 161, 3) := dk_182 0 161 (dk_at dksX2_readsThing_2 10 rfl rfl)
theorem dX2_readsThing_60 : decode cX2_readsThing 60 = .ok (.istore 4, 2) := dk_54 4 (dk_at dksX2_readsThing_2 13 rfl rfl)
theorem dX2_readsThing_62 : decode cX2_readsThing 62 = .ok (.aload_n 0, 1) := dk_42 (dk_at dksX2_readsThing_2 15 rfl rfl)
theorem dX2_readsThing_63 : decode cX2_readsThing 63 = .ok (.getfield 103, 3) := dk_180 0 103 (dk_at dksX2_readsThing_2 16 rfl rfl)
theorem dX2_readsThing_66 : decode cX2_readsThing 66 = .ok (.getfield 170, 3) := dk_180 0 170 (dk_at dksX2_readsThing_2 19 rfl rfl)
theorem dX2_readsThing_69 : decode cX2_readsThing 69 = .ok (.new 180, 3) := dk_187 0 180 (dk_at dksX2_readsThing_3 0 rfl rfl)
theorem dX2_readsThing_72 : decode cX2_readsThing 72 = .ok (.dup, 1) := dk_89 (dk_at dksX2_readsThing_3 3 rfl rfl)
theorem dX2_readsThing_73 : decode cX2_readsThing 73 = .ok (.aload_n 2, 1) := dk_44 (dk_at dksX2_readsThing_3 4 rfl rfl)
theorem dX2_readsThing_74 : decode cX2_readsThing 74 = .ok (.iload_n 3, 1) := dk_29 (dk_at dksX2_readsThing_3 5 rfl rfl)
theorem dX2_readsThing_75 : decode cX2_readsThing 75 = .ok (.iload 4, 2) := dk_21 4 (dk_at dksX2_readsThing_3 6 rfl rfl)
theorem dX2_readsThing_77 : decode cX2_readsThing 77 = .ok (.aload_n 0, 1) := dk_42 (dk_at dksX2_readsThing_3 8 rfl rfl)
theorem dX2_readsThing_78 : decode cX2_readsThing 78 = .ok (.ldc 182, 2) := dk_18 182 (dk_at dksX2_readsThing_3 9 rfl rfl)
theorem dX2_readsThing_80 : decode cX2_readsThing 80 = .ok (.iconst 0, 1) := dk_3 (dk_at dksX2_readsThing_3 11 rfl rfl)
theorem dX2_readsThing_81 : decode cX2_readsThing 81 = .ok (.bipush 9, 2) := dk_16 9 (dk_at dksX2_readsThing_3 12 rfl rfl)
theorem dX2_readsThing_83 : decode cX2_readsThing 83 = .ok (.invokevirtual 161, 3) := dk_182 0 161 (dk_at dksX2_readsThing_3 14 rfl rfl)
theorem dX2_readsThing_86 : decode cX2_readsThing 86 = .ok (.invokespecial 184, 3) := dk_183 0 184 (dk_at dksX2_readsThing_3 17 rfl rfl)
theorem dX2_readsThing_89 : decode cX2_readsThing 89 = .ok (.invokeinterface 167 2, 5) := by decide +kernel
theorem dX2_readsThing_94 : decode cX2_readsThing 94 = .ok (.pop, 1) := dk_87 (dk_at dksX2_readsThing_4 5 rfl rfl)
theorem dX2_readsThing_95 : decode cX2_readsThing 95 = .ok (.return_, 1) := dk_177 (dk_at dksX2_readsThing_4 6 rfl rfl)
abbrev cX2_readsTie : ByteArray := prog_17_method_19_code
def yX2_readsTie : MethodName := ⟨RX2, "readsTie", "(I)V"⟩
def dkwX2_readsTie_4 : List UInt8 := [183, 0, 196, 185, 0, 167, 2, 0, 87, 177]
abbrev dktX2_readsTie_4 : List UInt8 := dkwX2_readsTie_4 ++ []
def dkwX2_readsTie_3 : List UInt8 := [6, 42, 180, 0, 61, 182, 0, 47, 191, 42, 180, 0, 103, 180, 0, 187, 187, 0, 194, 89, 28, 29]
abbrev dktX2_readsTie_3 : List UInt8 := dkwX2_readsTie_3 ++ dktX2_readsTie_4
def dkwX2_readsTie_2 : List UInt8 := [180, 0, 103, 180, 0, 170, 28, 182, 0, 152, 62, 42, 180, 0, 103, 28, 29, 182, 0, 190, 153, 0, 13, 42]
abbrev dktX2_readsTie_2 : List UInt8 := dkwX2_readsTie_2 ++ dktX2_readsTie_3
def dkwX2_readsTie_1 : List UInt8 := [182, 0, 125, 42, 42, 180, 0, 103, 180, 0, 170, 2, 182, 0, 152, 61, 42, 18, 156, 182, 0, 93, 42, 42]
abbrev dktX2_readsTie_1 : List UInt8 := dkwX2_readsTie_1 ++ dktX2_readsTie_2
def dkwX2_readsTie_0 : List UInt8 := [42, 42, 180, 0, 103, 180, 0, 187, 185, 0, 145, 1, 0, 16, 12, 160, 0, 7, 4, 167, 0, 4, 3, 27]
abbrev dktX2_readsTie_0 : List UInt8 := dkwX2_readsTie_0 ++ dktX2_readsTie_1
theorem dksX2_readsTie_0 : cX2_readsTie.data.toList.drop 0 = dktX2_readsTie_0 := by decide +kernel
theorem dksX2_readsTie_1 : cX2_readsTie.data.toList.drop 24 = dktX2_readsTie_1 := dk_seg dksX2_readsTie_0 24 rfl rfl
theorem dksX2_readsTie_2 : cX2_readsTie.data.toList.drop 48 = dktX2_readsTie_2 := dk_seg dksX2_readsTie_1 24 rfl rfl
theorem dksX2_readsTie_3 : cX2_readsTie.data.toList.drop 72 = dktX2_readsTie_3 := dk_seg dksX2_readsTie_2 24 rfl rfl
theorem dksX2_readsTie_4 : cX2_readsTie.data.toList.drop 94 = dktX2_readsTie_4 := dk_seg dksX2_readsTie_3 22 rfl rfl
theorem dX2_readsTie_0 : decode cX2_readsTie 0 = .ok (.aload_n 0, 1) := dk_42 (dk_at dksX2_readsTie_0 0 rfl rfl)
theorem dX2_readsTie_1 : decode cX2_readsTie 1 = .ok (.aload_n 0, 1) := dk_42 (dk_at dksX2_readsTie_0 1 rfl rfl)
theorem dX2_readsTie_2 : decode cX2_readsTie 2 = .ok (.getfield 103, 3) := dk_180 0 103 (dk_at dksX2_readsTie_0 2 rfl rfl)
theorem dX2_readsTie_5 : decode cX2_readsTie 5 = .ok (.getfield 187, 3) := dk_180 0 187 (dk_at dksX2_readsTie_0 5 rfl rfl)
theorem dX2_readsTie_8 : decode cX2_readsTie 8 = .ok (.invokeinterface 145 1, 5) := by decide +kernel
theorem dX2_readsTie_13 : decode cX2_readsTie 13 = .ok (.bipush 12, 2) := dk_16 12 (dk_at dksX2_readsTie_0 13 rfl rfl)
theorem dX2_readsTie_15 : decode cX2_readsTie 15 = .ok (.if_icmp .ne 7, 3) := dk_160 0 7 (dk_at dksX2_readsTie_0 15 rfl rfl)
theorem dX2_readsTie_18 : decode cX2_readsTie 18 = .ok (.iconst 1, 1) := dk_4 (dk_at dksX2_readsTie_0 18 rfl rfl)
theorem dX2_readsTie_19 : decode cX2_readsTie 19 = .ok (.goto 4, 3) := dk_167 0 4 (dk_at dksX2_readsTie_0 19 rfl rfl)
theorem dX2_readsTie_22 : decode cX2_readsTie 22 = .ok (.iconst 0, 1) := dk_3 (dk_at dksX2_readsTie_0 22 rfl rfl)
theorem dX2_readsTie_23 : decode cX2_readsTie 23 = .ok (.iload_n 1, 1) := dk_27 (dk_at dksX2_readsTie_0 23 rfl rfl)
theorem dX2_readsTie_24 : decode cX2_readsTie 24 = .ok (.invokevirtual 125, 3) := dk_182 0 125 (dk_at dksX2_readsTie_1 0 rfl rfl)
theorem dX2_readsTie_27 : decode cX2_readsTie 27 = .ok (.aload_n 0, 1) := dk_42 (dk_at dksX2_readsTie_1 3 rfl rfl)
theorem dX2_readsTie_28 : decode cX2_readsTie 28 = .ok (.aload_n 0, 1) := dk_42 (dk_at dksX2_readsTie_1 4 rfl rfl)
theorem dX2_readsTie_29 : decode cX2_readsTie 29 = .ok (.getfield 103, 3) := dk_180 0 103 (dk_at dksX2_readsTie_1 5 rfl rfl)
theorem dX2_readsTie_32 : decode cX2_readsTie 32 = .ok (.getfield 170, 3) := dk_180 0 170 (dk_at dksX2_readsTie_1 8 rfl rfl)
theorem dX2_readsTie_35 : decode cX2_readsTie 35 = .ok (.iconst (-1), 1) := dk_2 (dk_at dksX2_readsTie_1 11 rfl rfl)
theorem dX2_readsTie_36 : decode cX2_readsTie 36 = .ok (.invokevirtual 152, 3) := dk_182 0 152 (dk_at dksX2_readsTie_1 12 rfl rfl)
theorem dX2_readsTie_39 : decode cX2_readsTie 39 = .ok (.istore_n 2, 1) := dk_61 (dk_at dksX2_readsTie_1 15 rfl rfl)
theorem dX2_readsTie_40 : decode cX2_readsTie 40 = .ok (.aload_n 0, 1) := dk_42 (dk_at dksX2_readsTie_1 16 rfl rfl)
theorem dX2_readsTie_41 : decode cX2_readsTie 41 = .ok (.ldc 156, 2) := dk_18 156 (dk_at dksX2_readsTie_1 17 rfl rfl)
theorem dX2_readsTie_43 : decode cX2_readsTie 43 = .ok (.invokevirtual 93, 3) := dk_182 0 93 (dk_at dksX2_readsTie_1 19 rfl rfl)
theorem dX2_readsTie_46 : decode cX2_readsTie 46 = .ok (.aload_n 0, 1) := dk_42 (dk_at dksX2_readsTie_1 22 rfl rfl)
theorem dX2_readsTie_47 : decode cX2_readsTie 47 = .ok (.aload_n 0, 1) := dk_42 (dk_at dksX2_readsTie_1 23 rfl rfl)
theorem dX2_readsTie_48 : decode cX2_readsTie 48 = .ok (.getfield 103, 3) := dk_180 0 103 (dk_at dksX2_readsTie_2 0 rfl rfl)
theorem dX2_readsTie_51 : decode cX2_readsTie 51 = .ok (.getfield 170, 3) := dk_180 0 170 (dk_at dksX2_readsTie_2 3 rfl rfl)
theorem dX2_readsTie_54 : decode cX2_readsTie 54 = .ok (.iload_n 2, 1) := dk_28 (dk_at dksX2_readsTie_2 6 rfl rfl)
theorem dX2_readsTie_55 : decode cX2_readsTie 55 = .ok (.invokevirtual 152, 3) := dk_182 0 152 (dk_at dksX2_readsTie_2 7 rfl rfl)
theorem dX2_readsTie_58 : decode cX2_readsTie 58 = .ok (.istore_n 3, 1) := dk_62 (dk_at dksX2_readsTie_2 10 rfl rfl)
theorem dX2_readsTie_59 : decode cX2_readsTie 59 = .ok (.aload_n 0, 1) := dk_42 (dk_at dksX2_readsTie_2 11 rfl rfl)
theorem dX2_readsTie_60 : decode cX2_readsTie 60 = .ok (.getfield 103, 3) := dk_180 0 103 (dk_at dksX2_readsTie_2 12 rfl rfl)
theorem dX2_readsTie_63 : decode cX2_readsTie 63 = .ok (.iload_n 2, 1) := dk_28 (dk_at dksX2_readsTie_2 15 rfl rfl)
theorem dX2_readsTie_64 : decode cX2_readsTie 64 = .ok (.iload_n 3, 1) := dk_29 (dk_at dksX2_readsTie_2 16 rfl rfl)
theorem dX2_readsTie_65 : decode cX2_readsTie 65 = .ok (.invokevirtual 190, 3) := dk_182 0 190 (dk_at dksX2_readsTie_2 17 rfl rfl)
theorem dX2_readsTie_68 : decode cX2_readsTie 68 = .ok (.ifCond .eq 13, 3) := dk_153 0 13 (dk_at dksX2_readsTie_2 20 rfl rfl)
theorem dX2_readsTie_71 : decode cX2_readsTie 71 = .ok (.aload_n 0, 1) := dk_42 (dk_at dksX2_readsTie_2 23 rfl rfl)
theorem dX2_readsTie_72 : decode cX2_readsTie 72 = .ok (.iconst 3, 1) := dk_6 (dk_at dksX2_readsTie_3 0 rfl rfl)
theorem dX2_readsTie_73 : decode cX2_readsTie 73 = .ok (.aload_n 0, 1) := dk_42 (dk_at dksX2_readsTie_3 1 rfl rfl)
theorem dX2_readsTie_74 : decode cX2_readsTie 74 = .ok (.getfield 61, 3) := dk_180 0 61 (dk_at dksX2_readsTie_3 2 rfl rfl)
theorem dX2_readsTie_77 : decode cX2_readsTie 77 = .ok (.invokevirtual 47, 3) := dk_182 0 47 (dk_at dksX2_readsTie_3 5 rfl rfl)
theorem dX2_readsTie_80 : decode cX2_readsTie 80 = .ok (.athrow, 1) := dk_191 (dk_at dksX2_readsTie_3 8 rfl rfl)
theorem dX2_readsTie_81 : decode cX2_readsTie 81 = .ok (.aload_n 0, 1) := dk_42 (dk_at dksX2_readsTie_3 9 rfl rfl)
theorem dX2_readsTie_82 : decode cX2_readsTie 82 = .ok (.getfield 103, 3) := dk_180 0 103 (dk_at dksX2_readsTie_3 10 rfl rfl)
theorem dX2_readsTie_85 : decode cX2_readsTie 85 = .ok (.getfield 187, 3) := dk_180 0 187 (dk_at dksX2_readsTie_3 13 rfl rfl)
theorem dX2_readsTie_88 : decode cX2_readsTie 88 = .ok (.new 194, 3) := dk_187 0 194 (dk_at dksX2_readsTie_3 16 rfl rfl)
theorem dX2_readsTie_91 : decode cX2_readsTie 91 = .ok (.dup, 1) := dk_89 (dk_at dksX2_readsTie_3 19 rfl rfl)
theorem dX2_readsTie_92 : decode cX2_readsTie 92 = .ok (.iload_n 2, 1) := dk_28 (dk_at dksX2_readsTie_3 20 rfl rfl)
theorem dX2_readsTie_93 : decode cX2_readsTie 93 = .ok (.iload_n 3, 1) := dk_29 (dk_at dksX2_readsTie_3 21 rfl rfl)
theorem dX2_readsTie_94 : decode cX2_readsTie 94 = .ok (.invokespecial 196, 3) := dk_183 0 196 (dk_at dksX2_readsTie_4 0 rfl rfl)
theorem dX2_readsTie_97 : decode cX2_readsTie 97 = .ok (.invokeinterface 167 2, 5) := by decide +kernel
theorem dX2_readsTie_102 : decode cX2_readsTie 102 = .ok (.pop, 1) := dk_87 (dk_at dksX2_readsTie_4 8 rfl rfl)
theorem dX2_readsTie_103 : decode cX2_readsTie 103 = .ok (.return_, 1) := dk_177 (dk_at dksX2_readsTie_4 9 rfl rfl)
abbrev cX2_more : ByteArray := prog_17_method_21_code
def yX2_more : MethodName := ⟨RX2, "more", "(Ljava/lang/String;I)V"⟩
def dkwX2_more_8 : List UInt8 := [180, 0, 103, 42, 3, 16, 100, 182, 0, 96, 181, 0, 247, 167, 0, 10, 42, 4, 28, 182, 0, 47, 191, 177]
abbrev dktX2_more_8 : List UInt8 := dkwX2_more_8 ++ []
def dkwX2_more_7 : List UInt8 := [167, 0, 4, 3, 28, 182, 0, 125, 42, 180, 0, 103, 42, 182, 0, 243, 181, 0, 240, 167, 0, 27, 42]
abbrev dktX2_more_7 : List UInt8 := dkwX2_more_7 ++ dktX2_more_8
def dkwX2_more_6 : List UInt8 := [42, 182, 0, 236, 181, 0, 233, 167, 0, 61, 42, 42, 180, 0, 103, 180, 0, 240, 198, 0, 7, 4]
abbrev dktX2_more_6 : List UInt8 := dkwX2_more_6 ++ dktX2_more_7
def dkwX2_more_5 : List UInt8 := [42, 42, 180, 0, 103, 180, 0, 233, 198, 0, 7, 4, 167, 0, 4, 3, 28, 182, 0, 125, 42, 180, 0, 103]
abbrev dktX2_more_5 : List UInt8 := dkwX2_more_5 ++ dktX2_more_6
def dkwX2_more_4 : List UInt8 := [170, 0, 0, 0, 0, 0, 0, 113, 0, 0, 0, 0, 0, 0, 0, 2, 0, 0, 0, 28, 0, 0, 0, 62, 0, 0, 0, 96]
abbrev dktX2_more_4 : List UInt8 := dkwX2_more_4 ++ dktX2_more_5
def dkwX2_more_3 : List UInt8 := [4, 54, 4, 167, 0, 15, 45, 18, 231, 182, 0, 74, 153, 0, 6, 5, 54, 4, 21, 4]
abbrev dktX2_more_3 : List UInt8 := dkwX2_more_3 ++ dktX2_more_4
def dkwX2_more_2 : List UInt8 := [45, 18, 178, 182, 0, 74, 153, 0, 36, 3, 54, 4, 167, 0, 30, 45, 18, 229, 182, 0, 74, 153, 0, 21]
abbrev dktX2_more_2 : List UInt8 := dkwX2_more_2 ++ dktX2_more_3
def dkwX2_more_1 : List UInt8 := [171, 0, 0, 0, 75, 0, 0, 0, 3, 5, 155, 232, 132, 0, 0, 0, 33, 6, 49, 102, 97, 0, 0, 0, 48, 114, 5, 67, 49, 0, 0, 0, 63]
abbrev dktX2_more_1 : List UInt8 := dkwX2_more_1 ++ dktX2_more_2
def dkwX2_more_0 : List UInt8 := [42, 16, 15, 181, 0, 226, 43, 78, 2, 54, 4, 45, 182, 0, 199]
abbrev dktX2_more_0 : List UInt8 := dkwX2_more_0 ++ dktX2_more_1
theorem dksX2_more_0 : cX2_more.data.toList.drop 0 = dktX2_more_0 := by decide +kernel
theorem dksX2_more_1 : cX2_more.data.toList.drop 15 = dktX2_more_1 := dk_seg dksX2_more_0 15 rfl rfl
theorem dksX2_more_2 : cX2_more.data.toList.drop 48 = dktX2_more_2 := dk_seg dksX2_more_1 33 rfl rfl
theorem dksX2_more_3 : cX2_more.data.toList.drop 72 = dktX2_more_3 := dk_seg dksX2_more_2 24 rfl rfl
theorem dksX2_more_4 : cX2_more.data.toList.drop 92 = dktX2_more_4 := dk_seg dksX2_more_3 20 rfl rfl
theorem dksX2_more_5 : cX2_more.data.toList.drop 120 = dktX2_more_5 := dk_seg dksX2_more_4 28 rfl rfl
theorem dksX2_more_6 : cX2_more.data.toList.drop 144 = dktX2_more_6 := dk_seg dksX2_more_5 24 rfl rfl
theorem dksX2_more_7 : cX2_more.data.toList.drop 166 = dktX2_more_7 := dk_seg dksX2_more_6 22 rfl rfl
theorem dksX2_more_8 : cX2_more.data.toList.drop 189 = dktX2_more_8 := dk_seg dksX2_more_7 23 rfl rfl
theorem dX2_more_0 : decode cX2_more 0 = .ok (.aload_n 0, 1) := dk_42 (dk_at dksX2_more_0 0 rfl rfl)
theorem dX2_more_1 : decode cX2_more 1 = .ok (.bipush 15, 2) := dk_16 15 (dk_at dksX2_more_0 1 rfl rfl)
theorem dX2_more_3 : decode cX2_more 3 = .ok (.putfield 226, 3) := dk_181 0 226 (dk_at dksX2_more_0 3 rfl rfl)
theorem dX2_more_6 : decode cX2_more 6 = .ok (.aload_n 1, 1) := dk_43 (dk_at dksX2_more_0 6 rfl rfl)
theorem dX2_more_7 : decode cX2_more 7 = .ok (.astore_n 3, 1) := dk_78 (dk_at dksX2_more_0 7 rfl rfl)
theorem dX2_more_8 : decode cX2_more 8 = .ok (.iconst (-1), 1) := dk_2 (dk_at dksX2_more_0 8 rfl rfl)
theorem dX2_more_9 : decode cX2_more 9 = .ok (.istore 4, 2) := dk_54 4 (dk_at dksX2_more_0 9 rfl rfl)
theorem dX2_more_11 : decode cX2_more 11 = .ok (.aload_n 3, 1) := dk_45 (dk_at dksX2_more_0 11 rfl rfl)
theorem dX2_more_12 : decode cX2_more 12 = .ok (.invokevirtual 199, 3) := dk_182 0 199 (dk_at dksX2_more_0 12 rfl rfl)
theorem dX2_more_15 : decode cX2_more 15 = .ok (.lookupswitch 75 #[(94103684, 33), (103900769, 48), (1912947505, 63)], 33) := by decide +kernel
theorem dX2_more_48 : decode cX2_more 48 = .ok (.aload_n 3, 1) := dk_45 (dk_at dksX2_more_2 0 rfl rfl)
theorem dX2_more_49 : decode cX2_more 49 = .ok (.ldc 178, 2) := dk_18 178 (dk_at dksX2_more_2 1 rfl rfl)
theorem dX2_more_51 : decode cX2_more 51 = .ok (.invokevirtual 74, 3) := dk_182 0 74 (dk_at dksX2_more_2 3 rfl rfl)
theorem dX2_more_54 : decode cX2_more 54 = .ok (.ifCond .eq 36, 3) := dk_153 0 36 (dk_at dksX2_more_2 6 rfl rfl)
theorem dX2_more_57 : decode cX2_more 57 = .ok (.iconst 0, 1) := dk_3 (dk_at dksX2_more_2 9 rfl rfl)
theorem dX2_more_58 : decode cX2_more 58 = .ok (.istore 4, 2) := dk_54 4 (dk_at dksX2_more_2 10 rfl rfl)
theorem dX2_more_60 : decode cX2_more 60 = .ok (.goto 30, 3) := dk_167 0 30 (dk_at dksX2_more_2 12 rfl rfl)
theorem dX2_more_63 : decode cX2_more 63 = .ok (.aload_n 3, 1) := dk_45 (dk_at dksX2_more_2 15 rfl rfl)
theorem dX2_more_64 : decode cX2_more 64 = .ok (.ldc 229, 2) := dk_18 229 (dk_at dksX2_more_2 16 rfl rfl)
theorem dX2_more_66 : decode cX2_more 66 = .ok (.invokevirtual 74, 3) := dk_182 0 74 (dk_at dksX2_more_2 18 rfl rfl)
theorem dX2_more_69 : decode cX2_more 69 = .ok (.ifCond .eq 21, 3) := dk_153 0 21 (dk_at dksX2_more_2 21 rfl rfl)
theorem dX2_more_72 : decode cX2_more 72 = .ok (.iconst 1, 1) := dk_4 (dk_at dksX2_more_3 0 rfl rfl)
theorem dX2_more_73 : decode cX2_more 73 = .ok (.istore 4, 2) := dk_54 4 (dk_at dksX2_more_3 1 rfl rfl)
theorem dX2_more_75 : decode cX2_more 75 = .ok (.goto 15, 3) := dk_167 0 15 (dk_at dksX2_more_3 3 rfl rfl)
theorem dX2_more_78 : decode cX2_more 78 = .ok (.aload_n 3, 1) := dk_45 (dk_at dksX2_more_3 6 rfl rfl)
theorem dX2_more_79 : decode cX2_more 79 = .ok (.ldc 231, 2) := dk_18 231 (dk_at dksX2_more_3 7 rfl rfl)
theorem dX2_more_81 : decode cX2_more 81 = .ok (.invokevirtual 74, 3) := dk_182 0 74 (dk_at dksX2_more_3 9 rfl rfl)
theorem dX2_more_84 : decode cX2_more 84 = .ok (.ifCond .eq 6, 3) := dk_153 0 6 (dk_at dksX2_more_3 12 rfl rfl)
theorem dX2_more_87 : decode cX2_more 87 = .ok (.iconst 2, 1) := dk_5 (dk_at dksX2_more_3 15 rfl rfl)
theorem dX2_more_88 : decode cX2_more 88 = .ok (.istore 4, 2) := dk_54 4 (dk_at dksX2_more_3 16 rfl rfl)
theorem dX2_more_90 : decode cX2_more 90 = .ok (.iload 4, 2) := dk_21 4 (dk_at dksX2_more_3 18 rfl rfl)
theorem dX2_more_92 : decode cX2_more 92 = .ok (.tableswitch 113 0 2 #[28, 62, 96], 28) := by decide +kernel
theorem dX2_more_120 : decode cX2_more 120 = .ok (.aload_n 0, 1) := dk_42 (dk_at dksX2_more_5 0 rfl rfl)
theorem dX2_more_121 : decode cX2_more 121 = .ok (.aload_n 0, 1) := dk_42 (dk_at dksX2_more_5 1 rfl rfl)
theorem dX2_more_122 : decode cX2_more 122 = .ok (.getfield 103, 3) := dk_180 0 103 (dk_at dksX2_more_5 2 rfl rfl)
theorem dX2_more_125 : decode cX2_more 125 = .ok (.getfield 233, 3) := dk_180 0 233 (dk_at dksX2_more_5 5 rfl rfl)
theorem dX2_more_128 : decode cX2_more 128 = .ok (.ifnull 7, 3) := dk_198 0 7 (dk_at dksX2_more_5 8 rfl rfl)
theorem dX2_more_131 : decode cX2_more 131 = .ok (.iconst 1, 1) := dk_4 (dk_at dksX2_more_5 11 rfl rfl)
theorem dX2_more_132 : decode cX2_more 132 = .ok (.goto 4, 3) := dk_167 0 4 (dk_at dksX2_more_5 12 rfl rfl)
theorem dX2_more_135 : decode cX2_more 135 = .ok (.iconst 0, 1) := dk_3 (dk_at dksX2_more_5 15 rfl rfl)
theorem dX2_more_136 : decode cX2_more 136 = .ok (.iload_n 2, 1) := dk_28 (dk_at dksX2_more_5 16 rfl rfl)
theorem dX2_more_137 : decode cX2_more 137 = .ok (.invokevirtual 125, 3) := dk_182 0 125 (dk_at dksX2_more_5 17 rfl rfl)
theorem dX2_more_140 : decode cX2_more 140 = .ok (.aload_n 0, 1) := dk_42 (dk_at dksX2_more_5 20 rfl rfl)
theorem dX2_more_141 : decode cX2_more 141 = .ok (.getfield 103, 3) := dk_180 0 103 (dk_at dksX2_more_5 21 rfl rfl)
theorem dX2_more_144 : decode cX2_more 144 = .ok (.aload_n 0, 1) := dk_42 (dk_at dksX2_more_6 0 rfl rfl)
theorem dX2_more_145 : decode cX2_more 145 = .ok (.invokevirtual 236, 3) := dk_182 0 236 (dk_at dksX2_more_6 1 rfl rfl)
theorem dX2_more_148 : decode cX2_more 148 = .ok (.putfield 233, 3) := dk_181 0 233 (dk_at dksX2_more_6 4 rfl rfl)
theorem dX2_more_151 : decode cX2_more 151 = .ok (.goto 61, 3) := dk_167 0 61 (dk_at dksX2_more_6 7 rfl rfl)
theorem dX2_more_154 : decode cX2_more 154 = .ok (.aload_n 0, 1) := dk_42 (dk_at dksX2_more_6 10 rfl rfl)
theorem dX2_more_155 : decode cX2_more 155 = .ok (.aload_n 0, 1) := dk_42 (dk_at dksX2_more_6 11 rfl rfl)
theorem dX2_more_156 : decode cX2_more 156 = .ok (.getfield 103, 3) := dk_180 0 103 (dk_at dksX2_more_6 12 rfl rfl)
theorem dX2_more_159 : decode cX2_more 159 = .ok (.getfield 240, 3) := dk_180 0 240 (dk_at dksX2_more_6 15 rfl rfl)
theorem dX2_more_162 : decode cX2_more 162 = .ok (.ifnull 7, 3) := dk_198 0 7 (dk_at dksX2_more_6 18 rfl rfl)
theorem dX2_more_165 : decode cX2_more 165 = .ok (.iconst 1, 1) := dk_4 (dk_at dksX2_more_6 21 rfl rfl)
theorem dX2_more_166 : decode cX2_more 166 = .ok (.goto 4, 3) := dk_167 0 4 (dk_at dksX2_more_7 0 rfl rfl)
theorem dX2_more_169 : decode cX2_more 169 = .ok (.iconst 0, 1) := dk_3 (dk_at dksX2_more_7 3 rfl rfl)
theorem dX2_more_170 : decode cX2_more 170 = .ok (.iload_n 2, 1) := dk_28 (dk_at dksX2_more_7 4 rfl rfl)
theorem dX2_more_171 : decode cX2_more 171 = .ok (.invokevirtual 125, 3) := dk_182 0 125 (dk_at dksX2_more_7 5 rfl rfl)
theorem dX2_more_174 : decode cX2_more 174 = .ok (.aload_n 0, 1) := dk_42 (dk_at dksX2_more_7 8 rfl rfl)
theorem dX2_more_175 : decode cX2_more 175 = .ok (.getfield 103, 3) := dk_180 0 103 (dk_at dksX2_more_7 9 rfl rfl)
theorem dX2_more_178 : decode cX2_more 178 = .ok (.aload_n 0, 1) := dk_42 (dk_at dksX2_more_7 12 rfl rfl)
theorem dX2_more_179 : decode cX2_more 179 = .ok (.invokevirtual 243, 3) := dk_182 0 243 (dk_at dksX2_more_7 13 rfl rfl)
theorem dX2_more_182 : decode cX2_more 182 = .ok (.putfield 240, 3) := dk_181 0 240 (dk_at dksX2_more_7 16 rfl rfl)
theorem dX2_more_185 : decode cX2_more 185 = .ok (.goto 27, 3) := dk_167 0 27 (dk_at dksX2_more_7 19 rfl rfl)
theorem dX2_more_188 : decode cX2_more 188 = .ok (.aload_n 0, 1) := dk_42 (dk_at dksX2_more_7 22 rfl rfl)
theorem dX2_more_189 : decode cX2_more 189 = .ok (.getfield 103, 3) := dk_180 0 103 (dk_at dksX2_more_8 0 rfl rfl)
theorem dX2_more_192 : decode cX2_more 192 = .ok (.aload_n 0, 1) := dk_42 (dk_at dksX2_more_8 3 rfl rfl)
theorem dX2_more_193 : decode cX2_more 193 = .ok (.iconst 0, 1) := dk_3 (dk_at dksX2_more_8 4 rfl rfl)
theorem dX2_more_194 : decode cX2_more 194 = .ok (.bipush 100, 2) := dk_16 100 (dk_at dksX2_more_8 5 rfl rfl)
theorem dX2_more_196 : decode cX2_more 196 = .ok (.invokevirtual 96, 3) := dk_182 0 96 (dk_at dksX2_more_8 7 rfl rfl)
theorem dX2_more_199 : decode cX2_more 199 = .ok (.putfield 247, 3) := dk_181 0 247 (dk_at dksX2_more_8 10 rfl rfl)
theorem dX2_more_202 : decode cX2_more 202 = .ok (.goto 10, 3) := dk_167 0 10 (dk_at dksX2_more_8 13 rfl rfl)
theorem dX2_more_205 : decode cX2_more 205 = .ok (.aload_n 0, 1) := dk_42 (dk_at dksX2_more_8 16 rfl rfl)
theorem dX2_more_206 : decode cX2_more 206 = .ok (.iconst 1, 1) := dk_4 (dk_at dksX2_more_8 17 rfl rfl)
theorem dX2_more_207 : decode cX2_more 207 = .ok (.iload_n 2, 1) := dk_28 (dk_at dksX2_more_8 18 rfl rfl)
theorem dX2_more_208 : decode cX2_more 208 = .ok (.invokevirtual 47, 3) := dk_182 0 47 (dk_at dksX2_more_8 19 rfl rfl)
theorem dX2_more_211 : decode cX2_more 211 = .ok (.athrow, 1) := dk_191 (dk_at dksX2_more_8 22 rfl rfl)
theorem dX2_more_212 : decode cX2_more 212 = .ok (.return_, 1) := dk_177 (dk_at dksX2_more_8 23 rfl rfl)
abbrev cX2_sum : ByteArray := prog_17_method_23_code
def yX2_sum : MethodName := ⟨RX2, "sum", "()LFirstSnuffer$Value;"⟩
def dkwX2_sum_3 : List UInt8 := [167, 255, 206, 43, 176]
abbrev dktX2_sum_3 : List UInt8 := dkwX2_sum_3 ++ []
def dkwX2_sum_2 : List UInt8 := [16, 45, 182, 1, 2, 153, 0, 16, 43, 16, 45, 42, 182, 0, 252, 182, 0, 255, 167, 255, 211, 3, 61]
abbrev dktX2_sum_2 : List UInt8 := dkwX2_sum_2 ++ dktX2_sum_3
def dkwX2_sum_1 : List UInt8 := [42, 16, 43, 182, 1, 2, 153, 0, 16, 43, 16, 43, 42, 182, 0, 252, 182, 0, 255, 167, 255, 233, 42]
abbrev dktX2_sum_1 : List UInt8 := dkwX2_sum_1 ++ dktX2_sum_2
def dkwX2_sum_0 : List UInt8 := [187, 0, 249, 89, 183, 0, 251, 76, 43, 16, 43, 42, 182, 0, 252, 182, 0, 255, 4, 61, 28, 153, 0, 52]
abbrev dktX2_sum_0 : List UInt8 := dkwX2_sum_0 ++ dktX2_sum_1
theorem dksX2_sum_0 : cX2_sum.data.toList.drop 0 = dktX2_sum_0 := by decide +kernel
theorem dksX2_sum_1 : cX2_sum.data.toList.drop 24 = dktX2_sum_1 := dk_seg dksX2_sum_0 24 rfl rfl
theorem dksX2_sum_2 : cX2_sum.data.toList.drop 47 = dktX2_sum_2 := dk_seg dksX2_sum_1 23 rfl rfl
theorem dksX2_sum_3 : cX2_sum.data.toList.drop 70 = dktX2_sum_3 := dk_seg dksX2_sum_2 23 rfl rfl
theorem dX2_sum_0 : decode cX2_sum 0 = .ok (.new 249, 3) := dk_187 0 249 (dk_at dksX2_sum_0 0 rfl rfl)
theorem dX2_sum_3 : decode cX2_sum 3 = .ok (.dup, 1) := dk_89 (dk_at dksX2_sum_0 3 rfl rfl)
theorem dX2_sum_4 : decode cX2_sum 4 = .ok (.invokespecial 251, 3) := dk_183 0 251 (dk_at dksX2_sum_0 4 rfl rfl)
theorem dX2_sum_7 : decode cX2_sum 7 = .ok (.astore_n 1, 1) := dk_76 (dk_at dksX2_sum_0 7 rfl rfl)
theorem dX2_sum_8 : decode cX2_sum 8 = .ok (.aload_n 1, 1) := dk_43 (dk_at dksX2_sum_0 8 rfl rfl)
theorem dX2_sum_9 : decode cX2_sum 9 = .ok (.bipush 43, 2) := dk_16 43 (dk_at dksX2_sum_0 9 rfl rfl)
theorem dX2_sum_11 : decode cX2_sum 11 = .ok (.aload_n 0, 1) := dk_42 (dk_at dksX2_sum_0 11 rfl rfl)
theorem dX2_sum_12 : decode cX2_sum 12 = .ok (.invokevirtual 252, 3) := dk_182 0 252 (dk_at dksX2_sum_0 12 rfl rfl)
theorem dX2_sum_15 : decode cX2_sum 15 = .ok (.invokevirtual 255, 3) := dk_182 0 255 (dk_at dksX2_sum_0 15 rfl rfl)
theorem dX2_sum_18 : decode cX2_sum 18 = .ok (.iconst 1, 1) := dk_4 (dk_at dksX2_sum_0 18 rfl rfl)
theorem dX2_sum_19 : decode cX2_sum 19 = .ok (.istore_n 2, 1) := dk_61 (dk_at dksX2_sum_0 19 rfl rfl)
theorem dX2_sum_20 : decode cX2_sum 20 = .ok (.iload_n 2, 1) := dk_28 (dk_at dksX2_sum_0 20 rfl rfl)
theorem dX2_sum_21 : decode cX2_sum 21 = .ok (.ifCond .eq 52, 3) := dk_153 0 52 (dk_at dksX2_sum_0 21 rfl rfl)
theorem dX2_sum_24 : decode cX2_sum 24 = .ok (.aload_n 0, 1) := dk_42 (dk_at dksX2_sum_1 0 rfl rfl)
theorem dX2_sum_25 : decode cX2_sum 25 = .ok (.bipush 43, 2) := dk_16 43 (dk_at dksX2_sum_1 1 rfl rfl)
theorem dX2_sum_27 : decode cX2_sum 27 = .ok (.invokevirtual 258, 3) := dk_182 1 2 (dk_at dksX2_sum_1 3 rfl rfl)
theorem dX2_sum_30 : decode cX2_sum 30 = .ok (.ifCond .eq 16, 3) := dk_153 0 16 (dk_at dksX2_sum_1 6 rfl rfl)
theorem dX2_sum_33 : decode cX2_sum 33 = .ok (.aload_n 1, 1) := dk_43 (dk_at dksX2_sum_1 9 rfl rfl)
theorem dX2_sum_34 : decode cX2_sum 34 = .ok (.bipush 43, 2) := dk_16 43 (dk_at dksX2_sum_1 10 rfl rfl)
theorem dX2_sum_36 : decode cX2_sum 36 = .ok (.aload_n 0, 1) := dk_42 (dk_at dksX2_sum_1 12 rfl rfl)
theorem dX2_sum_37 : decode cX2_sum 37 = .ok (.invokevirtual 252, 3) := dk_182 0 252 (dk_at dksX2_sum_1 13 rfl rfl)
theorem dX2_sum_40 : decode cX2_sum 40 = .ok (.invokevirtual 255, 3) := dk_182 0 255 (dk_at dksX2_sum_1 16 rfl rfl)
theorem dX2_sum_43 : decode cX2_sum 43 = .ok (.goto (-23), 3) := dk_167 255 233 (dk_at dksX2_sum_1 19 rfl rfl)
theorem dX2_sum_46 : decode cX2_sum 46 = .ok (.aload_n 0, 1) := dk_42 (dk_at dksX2_sum_1 22 rfl rfl)
theorem dX2_sum_47 : decode cX2_sum 47 = .ok (.bipush 45, 2) := dk_16 45 (dk_at dksX2_sum_2 0 rfl rfl)
theorem dX2_sum_49 : decode cX2_sum 49 = .ok (.invokevirtual 258, 3) := dk_182 1 2 (dk_at dksX2_sum_2 2 rfl rfl)
theorem dX2_sum_52 : decode cX2_sum 52 = .ok (.ifCond .eq 16, 3) := dk_153 0 16 (dk_at dksX2_sum_2 5 rfl rfl)
theorem dX2_sum_55 : decode cX2_sum 55 = .ok (.aload_n 1, 1) := dk_43 (dk_at dksX2_sum_2 8 rfl rfl)
theorem dX2_sum_56 : decode cX2_sum 56 = .ok (.bipush 45, 2) := dk_16 45 (dk_at dksX2_sum_2 9 rfl rfl)
theorem dX2_sum_58 : decode cX2_sum 58 = .ok (.aload_n 0, 1) := dk_42 (dk_at dksX2_sum_2 11 rfl rfl)
theorem dX2_sum_59 : decode cX2_sum 59 = .ok (.invokevirtual 252, 3) := dk_182 0 252 (dk_at dksX2_sum_2 12 rfl rfl)
theorem dX2_sum_62 : decode cX2_sum 62 = .ok (.invokevirtual 255, 3) := dk_182 0 255 (dk_at dksX2_sum_2 15 rfl rfl)
theorem dX2_sum_65 : decode cX2_sum 65 = .ok (.goto (-45), 3) := dk_167 255 211 (dk_at dksX2_sum_2 18 rfl rfl)
theorem dX2_sum_68 : decode cX2_sum 68 = .ok (.iconst 0, 1) := dk_3 (dk_at dksX2_sum_2 21 rfl rfl)
theorem dX2_sum_69 : decode cX2_sum 69 = .ok (.istore_n 2, 1) := dk_61 (dk_at dksX2_sum_2 22 rfl rfl)
theorem dX2_sum_70 : decode cX2_sum 70 = .ok (.goto (-50), 3) := dk_167 255 206 (dk_at dksX2_sum_3 0 rfl rfl)
theorem dX2_sum_73 : decode cX2_sum 73 = .ok (.aload_n 1, 1) := dk_43 (dk_at dksX2_sum_3 3 rfl rfl)
theorem dX2_sum_74 : decode cX2_sum 74 = .ok (.areturn, 1) := dk_176 (dk_at dksX2_sum_3 4 rfl rfl)
abbrev cX2_product : ByteArray := prog_17_method_24_code
def yX2_product : MethodName := ⟨RX2, "product", "()LFirstSnuffer$Value;"⟩
def dkwX2_product_3 : List UInt8 := [167, 255, 206, 43, 176]
abbrev dktX2_product_3 : List UInt8 := dkwX2_product_3 ++ []
def dkwX2_product_2 : List UInt8 := [16, 47, 182, 1, 2, 153, 0, 16, 43, 16, 47, 42, 182, 1, 5, 182, 0, 255, 167, 255, 211, 3, 61]
abbrev dktX2_product_2 : List UInt8 := dkwX2_product_2 ++ dktX2_product_3
def dkwX2_product_1 : List UInt8 := [42, 16, 42, 182, 1, 2, 153, 0, 16, 43, 16, 42, 42, 182, 1, 5, 182, 0, 255, 167, 255, 233, 42]
abbrev dktX2_product_1 : List UInt8 := dkwX2_product_1 ++ dktX2_product_2
def dkwX2_product_0 : List UInt8 := [187, 0, 249, 89, 183, 0, 251, 76, 43, 16, 42, 42, 182, 1, 5, 182, 0, 255, 4, 61, 28, 153, 0, 52]
abbrev dktX2_product_0 : List UInt8 := dkwX2_product_0 ++ dktX2_product_1
theorem dksX2_product_0 : cX2_product.data.toList.drop 0 = dktX2_product_0 := by decide +kernel
theorem dksX2_product_1 : cX2_product.data.toList.drop 24 = dktX2_product_1 := dk_seg dksX2_product_0 24 rfl rfl
theorem dksX2_product_2 : cX2_product.data.toList.drop 47 = dktX2_product_2 := dk_seg dksX2_product_1 23 rfl rfl
theorem dksX2_product_3 : cX2_product.data.toList.drop 70 = dktX2_product_3 := dk_seg dksX2_product_2 23 rfl rfl
theorem dX2_product_0 : decode cX2_product 0 = .ok (.new 249, 3) := dk_187 0 249 (dk_at dksX2_product_0 0 rfl rfl)
theorem dX2_product_3 : decode cX2_product 3 = .ok (.dup, 1) := dk_89 (dk_at dksX2_product_0 3 rfl rfl)
theorem dX2_product_4 : decode cX2_product 4 = .ok (.invokespecial 251, 3) := dk_183 0 251 (dk_at dksX2_product_0 4 rfl rfl)
theorem dX2_product_7 : decode cX2_product 7 = .ok (.astore_n 1, 1) := dk_76 (dk_at dksX2_product_0 7 rfl rfl)
theorem dX2_product_8 : decode cX2_product 8 = .ok (.aload_n 1, 1) := dk_43 (dk_at dksX2_product_0 8 rfl rfl)
theorem dX2_product_9 : decode cX2_product 9 = .ok (.bipush 42, 2) := dk_16 42 (dk_at dksX2_product_0 9 rfl rfl)
theorem dX2_product_11 : decode cX2_product 11 = .ok (.aload_n 0, 1) := dk_42 (dk_at dksX2_product_0 11 rfl rfl)
theorem dX2_product_12 : decode cX2_product 12 = .ok (.invokevirtual 261, 3) := dk_182 1 5 (dk_at dksX2_product_0 12 rfl rfl)
theorem dX2_product_15 : decode cX2_product 15 = .ok (.invokevirtual 255, 3) := dk_182 0 255 (dk_at dksX2_product_0 15 rfl rfl)
theorem dX2_product_18 : decode cX2_product 18 = .ok (.iconst 1, 1) := dk_4 (dk_at dksX2_product_0 18 rfl rfl)
theorem dX2_product_19 : decode cX2_product 19 = .ok (.istore_n 2, 1) := dk_61 (dk_at dksX2_product_0 19 rfl rfl)
theorem dX2_product_20 : decode cX2_product 20 = .ok (.iload_n 2, 1) := dk_28 (dk_at dksX2_product_0 20 rfl rfl)
theorem dX2_product_21 : decode cX2_product 21 = .ok (.ifCond .eq 52, 3) := dk_153 0 52 (dk_at dksX2_product_0 21 rfl rfl)
theorem dX2_product_24 : decode cX2_product 24 = .ok (.aload_n 0, 1) := dk_42 (dk_at dksX2_product_1 0 rfl rfl)
theorem dX2_product_25 : decode cX2_product 25 = .ok (.bipush 42, 2) := dk_16 42 (dk_at dksX2_product_1 1 rfl rfl)
theorem dX2_product_27 : decode cX2_product 27 = .ok (.invokevirtual 258, 3) := dk_182 1 2 (dk_at dksX2_product_1 3 rfl rfl)
theorem dX2_product_30 : decode cX2_product 30 = .ok (.ifCond .eq 16, 3) := dk_153 0 16 (dk_at dksX2_product_1 6 rfl rfl)
theorem dX2_product_33 : decode cX2_product 33 = .ok (.aload_n 1, 1) := dk_43 (dk_at dksX2_product_1 9 rfl rfl)
theorem dX2_product_34 : decode cX2_product 34 = .ok (.bipush 42, 2) := dk_16 42 (dk_at dksX2_product_1 10 rfl rfl)
theorem dX2_product_36 : decode cX2_product 36 = .ok (.aload_n 0, 1) := dk_42 (dk_at dksX2_product_1 12 rfl rfl)
theorem dX2_product_37 : decode cX2_product 37 = .ok (.invokevirtual 261, 3) := dk_182 1 5 (dk_at dksX2_product_1 13 rfl rfl)
theorem dX2_product_40 : decode cX2_product 40 = .ok (.invokevirtual 255, 3) := dk_182 0 255 (dk_at dksX2_product_1 16 rfl rfl)
theorem dX2_product_43 : decode cX2_product 43 = .ok (.goto (-23), 3) := dk_167 255 233 (dk_at dksX2_product_1 19 rfl rfl)
theorem dX2_product_46 : decode cX2_product 46 = .ok (.aload_n 0, 1) := dk_42 (dk_at dksX2_product_1 22 rfl rfl)
theorem dX2_product_47 : decode cX2_product 47 = .ok (.bipush 47, 2) := dk_16 47 (dk_at dksX2_product_2 0 rfl rfl)
theorem dX2_product_49 : decode cX2_product 49 = .ok (.invokevirtual 258, 3) := dk_182 1 2 (dk_at dksX2_product_2 2 rfl rfl)
theorem dX2_product_52 : decode cX2_product 52 = .ok (.ifCond .eq 16, 3) := dk_153 0 16 (dk_at dksX2_product_2 5 rfl rfl)
theorem dX2_product_55 : decode cX2_product 55 = .ok (.aload_n 1, 1) := dk_43 (dk_at dksX2_product_2 8 rfl rfl)
theorem dX2_product_56 : decode cX2_product 56 = .ok (.bipush 47, 2) := dk_16 47 (dk_at dksX2_product_2 9 rfl rfl)
theorem dX2_product_58 : decode cX2_product 58 = .ok (.aload_n 0, 1) := dk_42 (dk_at dksX2_product_2 11 rfl rfl)
theorem dX2_product_59 : decode cX2_product 59 = .ok (.invokevirtual 261, 3) := dk_182 1 5 (dk_at dksX2_product_2 12 rfl rfl)
theorem dX2_product_62 : decode cX2_product 62 = .ok (.invokevirtual 255, 3) := dk_182 0 255 (dk_at dksX2_product_2 15 rfl rfl)
theorem dX2_product_65 : decode cX2_product 65 = .ok (.goto (-45), 3) := dk_167 255 211 (dk_at dksX2_product_2 18 rfl rfl)
theorem dX2_product_68 : decode cX2_product 68 = .ok (.iconst 0, 1) := dk_3 (dk_at dksX2_product_2 21 rfl rfl)
theorem dX2_product_69 : decode cX2_product 69 = .ok (.istore_n 2, 1) := dk_61 (dk_at dksX2_product_2 22 rfl rfl)
theorem dX2_product_70 : decode cX2_product 70 = .ok (.goto (-50), 3) := dk_167 255 206 (dk_at dksX2_product_3 0 rfl rfl)
theorem dX2_product_73 : decode cX2_product 73 = .ok (.aload_n 1, 1) := dk_43 (dk_at dksX2_product_3 3 rfl rfl)
theorem dX2_product_74 : decode cX2_product 74 = .ok (.areturn, 1) := dk_176 (dk_at dksX2_product_3 4 rfl rfl)
abbrev cX2_atom : ByteArray := prog_17_method_27_code
def yX2_atom : MethodName := ⟨RX2, "atom", "()LFirstSnuffer$Value;"⟩
def dkwX2_atom_7 : List UInt8 := [182, 1, 16, 176]
abbrev dktX2_atom_7 : List UInt8 := dkwX2_atom_7 ++ []
def dkwX2_atom_6 : List UInt8 := [180, 0, 61, 182, 0, 47, 191, 42, 43, 19, 1, 41, 182, 0, 74, 153, 0, 7, 4, 167, 0, 4, 5]
abbrev dktX2_atom_6 : List UInt8 := dkwX2_atom_6 ++ dktX2_atom_7
def dkwX2_atom_5 : List UInt8 := [19, 1, 41, 182, 0, 74, 154, 0, 23, 43, 19, 1, 43, 182, 0, 74, 154, 0, 13, 42, 4, 42]
abbrev dktX2_atom_5 : List UInt8 := dkwX2_atom_5 ++ dktX2_atom_6
def dkwX2_atom_4 : List UInt8 := [178, 1, 35, 184, 0, 82, 167, 0, 4, 2, 61, 28, 2, 159, 0, 9, 42, 28, 182, 1, 38, 176, 43]
abbrev dktX2_atom_4 : List UInt8 := dkwX2_atom_4 ++ dktX2_atom_5
def dkwX2_atom_3 : List UInt8 := [153, 0, 12, 187, 1, 31, 89, 28, 183, 1, 33, 176, 42, 180, 0, 226, 16, 123, 160, 0, 13, 43]
abbrev dktX2_atom_3 : List UInt8 := dkwX2_atom_3 ++ dktX2_atom_4
def dkwX2_atom_2 : List UInt8 := [76, 43, 178, 1, 25, 184, 0, 82, 61, 28, 2, 159, 0, 23, 42, 180, 0, 226, 28, 184, 1, 28]
abbrev dktX2_atom_2 : List UInt8 := dkwX2_atom_2 ++ dktX2_atom_3
def dkwX2_atom_1 : List UInt8 := [153, 0, 20, 187, 1, 20, 89, 42, 3, 17, 39, 15, 182, 0, 96, 133, 183, 1, 22, 176, 42, 182, 0, 70]
abbrev dktX2_atom_1 : List UInt8 := dkwX2_atom_1 ++ dktX2_atom_2
def dkwX2_atom_0 : List UInt8 := [42, 182, 0, 43, 16, 40, 160, 0, 9, 42, 3, 182, 1, 16, 176, 42, 182, 0, 43, 184, 0, 55]
abbrev dktX2_atom_0 : List UInt8 := dkwX2_atom_0 ++ dktX2_atom_1
theorem dksX2_atom_0 : cX2_atom.data.toList.drop 0 = dktX2_atom_0 := by decide +kernel
theorem dksX2_atom_1 : cX2_atom.data.toList.drop 22 = dktX2_atom_1 := dk_seg dksX2_atom_0 22 rfl rfl
theorem dksX2_atom_2 : cX2_atom.data.toList.drop 46 = dktX2_atom_2 := dk_seg dksX2_atom_1 24 rfl rfl
theorem dksX2_atom_3 : cX2_atom.data.toList.drop 68 = dktX2_atom_3 := dk_seg dksX2_atom_2 22 rfl rfl
theorem dksX2_atom_4 : cX2_atom.data.toList.drop 90 = dktX2_atom_4 := dk_seg dksX2_atom_3 22 rfl rfl
theorem dksX2_atom_5 : cX2_atom.data.toList.drop 113 = dktX2_atom_5 := dk_seg dksX2_atom_4 23 rfl rfl
theorem dksX2_atom_6 : cX2_atom.data.toList.drop 135 = dktX2_atom_6 := dk_seg dksX2_atom_5 22 rfl rfl
theorem dksX2_atom_7 : cX2_atom.data.toList.drop 158 = dktX2_atom_7 := dk_seg dksX2_atom_6 23 rfl rfl
theorem dX2_atom_0 : decode cX2_atom 0 = .ok (.aload_n 0, 1) := dk_42 (dk_at dksX2_atom_0 0 rfl rfl)
theorem dX2_atom_1 : decode cX2_atom 1 = .ok (.invokevirtual 43, 3) := dk_182 0 43 (dk_at dksX2_atom_0 1 rfl rfl)
theorem dX2_atom_4 : decode cX2_atom 4 = .ok (.bipush 40, 2) := dk_16 40 (dk_at dksX2_atom_0 4 rfl rfl)
theorem dX2_atom_6 : decode cX2_atom 6 = .ok (.if_icmp .ne 9, 3) := dk_160 0 9 (dk_at dksX2_atom_0 6 rfl rfl)
theorem dX2_atom_9 : decode cX2_atom 9 = .ok (.aload_n 0, 1) := dk_42 (dk_at dksX2_atom_0 9 rfl rfl)
theorem dX2_atom_10 : decode cX2_atom 10 = .ok (.iconst 0, 1) := dk_3 (dk_at dksX2_atom_0 10 rfl rfl)
theorem dX2_atom_11 : decode cX2_atom 11 = .ok (.invokevirtual 272, 3) := dk_182 1 16 (dk_at dksX2_atom_0 11 rfl rfl)
theorem dX2_atom_14 : decode cX2_atom 14 = .ok (.areturn, 1) := dk_176 (dk_at dksX2_atom_0 14 rfl rfl)
theorem dX2_atom_15 : decode cX2_atom 15 = .ok (.aload_n 0, 1) := dk_42 (dk_at dksX2_atom_0 15 rfl rfl)
theorem dX2_atom_16 : decode cX2_atom 16 = .ok (.invokevirtual 43, 3) := dk_182 0 43 (dk_at dksX2_atom_0 16 rfl rfl)
theorem dX2_atom_19 : decode cX2_atom 19 = .ok (.invokestatic 55, 3) := dk_184 0 55 (dk_at dksX2_atom_0 19 rfl rfl)
theorem dX2_atom_22 : decode cX2_atom 22 = .ok (.ifCond .eq 20, 3) := dk_153 0 20 (dk_at dksX2_atom_1 0 rfl rfl)
theorem dX2_atom_25 : decode cX2_atom 25 = .ok (.new 276, 3) := dk_187 1 20 (dk_at dksX2_atom_1 3 rfl rfl)
theorem dX2_atom_28 : decode cX2_atom 28 = .ok (.dup, 1) := dk_89 (dk_at dksX2_atom_1 6 rfl rfl)
theorem dX2_atom_29 : decode cX2_atom 29 = .ok (.aload_n 0, 1) := dk_42 (dk_at dksX2_atom_1 7 rfl rfl)
theorem dX2_atom_30 : decode cX2_atom 30 = .ok (.iconst 0, 1) := dk_3 (dk_at dksX2_atom_1 8 rfl rfl)
theorem dX2_atom_31 : decode cX2_atom 31 = .ok (.sipush 9999, 3) := dk_17 39 15 (dk_at dksX2_atom_1 9 rfl rfl)
theorem dX2_atom_34 : decode cX2_atom 34 = .ok (.invokevirtual 96, 3) := dk_182 0 96 (dk_at dksX2_atom_1 12 rfl rfl)
theorem dX2_atom_37 : decode cX2_atom 37 = .ok (.i2l, 1) := dk_133 (dk_at dksX2_atom_1 15 rfl rfl)
theorem dX2_atom_38 : decode cX2_atom 38 = .ok (.invokespecial 278, 3) := dk_183 1 22 (dk_at dksX2_atom_1 16 rfl rfl)
theorem dX2_atom_41 : decode cX2_atom 41 = .ok (.areturn, 1) := dk_176 (dk_at dksX2_atom_1 19 rfl rfl)
theorem dX2_atom_42 : decode cX2_atom 42 = .ok (.aload_n 0, 1) := dk_42 (dk_at dksX2_atom_1 20 rfl rfl)
theorem dX2_atom_43 : decode cX2_atom 43 = .ok (.invokevirtual 70, 3) := dk_182 0 70 (dk_at dksX2_atom_1 21 rfl rfl)
theorem dX2_atom_46 : decode cX2_atom 46 = .ok (.astore_n 1, 1) := dk_76 (dk_at dksX2_atom_2 0 rfl rfl)
theorem dX2_atom_47 : decode cX2_atom 47 = .ok (.aload_n 1, 1) := dk_43 (dk_at dksX2_atom_2 1 rfl rfl)
theorem dX2_atom_48 : decode cX2_atom 48 = .ok (.getstatic 281, 3) := dk_178 1 25 (dk_at dksX2_atom_2 2 rfl rfl)
theorem dX2_atom_51 : decode cX2_atom 51 = .ok (.invokestatic 82, 3) := dk_184 0 82 (dk_at dksX2_atom_2 5 rfl rfl)
theorem dX2_atom_54 : decode cX2_atom 54 = .ok (.istore_n 2, 1) := dk_61 (dk_at dksX2_atom_2 8 rfl rfl)
theorem dX2_atom_55 : decode cX2_atom 55 = .ok (.iload_n 2, 1) := dk_28 (dk_at dksX2_atom_2 9 rfl rfl)
theorem dX2_atom_56 : decode cX2_atom 56 = .ok (.iconst (-1), 1) := dk_2 (dk_at dksX2_atom_2 10 rfl rfl)
theorem dX2_atom_57 : decode cX2_atom 57 = .ok (.if_icmp .eq 23, 3) := dk_159 0 23 (dk_at dksX2_atom_2 11 rfl rfl)
theorem dX2_atom_60 : decode cX2_atom 60 = .ok (.aload_n 0, 1) := dk_42 (dk_at dksX2_atom_2 14 rfl rfl)
theorem dX2_atom_61 : decode cX2_atom 61 = .ok (.getfield 226, 3) := dk_180 0 226 (dk_at dksX2_atom_2 15 rfl rfl)
theorem dX2_atom_64 : decode cX2_atom 64 = .ok (.iload_n 2, 1) := dk_28 (dk_at dksX2_atom_2 18 rfl rfl)
theorem dX2_atom_65 : decode cX2_atom 65 = .ok (.invokestatic 284, 3) := dk_184 1 28 (dk_at dksX2_atom_2 19 rfl rfl)
theorem dX2_atom_68 : decode cX2_atom 68 = .ok (.ifCond .eq 12, 3) := dk_153 0 12 (dk_at dksX2_atom_3 0 rfl rfl)
theorem dX2_atom_71 : decode cX2_atom 71 = .ok (.new 287, 3) := dk_187 1 31 (dk_at dksX2_atom_3 3 rfl rfl)
theorem dX2_atom_74 : decode cX2_atom 74 = .ok (.dup, 1) := dk_89 (dk_at dksX2_atom_3 6 rfl rfl)
theorem dX2_atom_75 : decode cX2_atom 75 = .ok (.iload_n 2, 1) := dk_28 (dk_at dksX2_atom_3 7 rfl rfl)
theorem dX2_atom_76 : decode cX2_atom 76 = .ok (.invokespecial 289, 3) := dk_183 1 33 (dk_at dksX2_atom_3 8 rfl rfl)
theorem dX2_atom_79 : decode cX2_atom 79 = .ok (.areturn, 1) := dk_176 (dk_at dksX2_atom_3 11 rfl rfl)
theorem dX2_atom_80 : decode cX2_atom 80 = .ok (.aload_n 0, 1) := dk_42 (dk_at dksX2_atom_3 12 rfl rfl)
theorem dX2_atom_81 : decode cX2_atom 81 = .ok (.getfield 226, 3) := dk_180 0 226 (dk_at dksX2_atom_3 13 rfl rfl)
theorem dX2_atom_84 : decode cX2_atom 84 = .ok (.bipush 123, 2) := dk_16 123 (dk_at dksX2_atom_3 16 rfl rfl)
theorem dX2_atom_86 : decode cX2_atom 86 = .ok (.if_icmp .ne 13, 3) := dk_160 0 13 (dk_at dksX2_atom_3 18 rfl rfl)
theorem dX2_atom_89 : decode cX2_atom 89 = .ok (.aload_n 1, 1) := dk_43 (dk_at dksX2_atom_3 21 rfl rfl)
theorem dX2_atom_90 : decode cX2_atom 90 = .ok (.getstatic 291, 3) := dk_178 1 35 (dk_at dksX2_atom_4 0 rfl rfl)
theorem dX2_atom_93 : decode cX2_atom 93 = .ok (.invokestatic 82, 3) := dk_184 0 82 (dk_at dksX2_atom_4 3 rfl rfl)
theorem dX2_atom_96 : decode cX2_atom 96 = .ok (.goto 4, 3) := dk_167 0 4 (dk_at dksX2_atom_4 6 rfl rfl)
theorem dX2_atom_99 : decode cX2_atom 99 = .ok (.iconst (-1), 1) := dk_2 (dk_at dksX2_atom_4 9 rfl rfl)
theorem dX2_atom_100 : decode cX2_atom 100 = .ok (.istore_n 2, 1) := dk_61 (dk_at dksX2_atom_4 10 rfl rfl)
theorem dX2_atom_101 : decode cX2_atom 101 = .ok (.iload_n 2, 1) := dk_28 (dk_at dksX2_atom_4 11 rfl rfl)
theorem dX2_atom_102 : decode cX2_atom 102 = .ok (.iconst (-1), 1) := dk_2 (dk_at dksX2_atom_4 12 rfl rfl)
theorem dX2_atom_103 : decode cX2_atom 103 = .ok (.if_icmp .eq 9, 3) := dk_159 0 9 (dk_at dksX2_atom_4 13 rfl rfl)
theorem dX2_atom_106 : decode cX2_atom 106 = .ok (.aload_n 0, 1) := dk_42 (dk_at dksX2_atom_4 16 rfl rfl)
theorem dX2_atom_107 : decode cX2_atom 107 = .ok (.iload_n 2, 1) := dk_28 (dk_at dksX2_atom_4 17 rfl rfl)
theorem dX2_atom_108 : decode cX2_atom 108 = .ok (.invokevirtual 294, 3) := dk_182 1 38 (dk_at dksX2_atom_4 18 rfl rfl)
theorem dX2_atom_111 : decode cX2_atom 111 = .ok (.areturn, 1) := dk_176 (dk_at dksX2_atom_4 21 rfl rfl)
theorem dX2_atom_112 : decode cX2_atom 112 = .ok (.aload_n 1, 1) := dk_43 (dk_at dksX2_atom_4 22 rfl rfl)
theorem dX2_atom_113 : decode cX2_atom 113 = .ok (.ldc_w 297, 3) := dk_19 1 41 (dk_at dksX2_atom_5 0 rfl rfl)
theorem dX2_atom_116 : decode cX2_atom 116 = .ok (.invokevirtual 74, 3) := dk_182 0 74 (dk_at dksX2_atom_5 3 rfl rfl)
theorem dX2_atom_119 : decode cX2_atom 119 = .ok (.ifCond .ne 23, 3) := dk_154 0 23 (dk_at dksX2_atom_5 6 rfl rfl)
theorem dX2_atom_122 : decode cX2_atom 122 = .ok (.aload_n 1, 1) := dk_43 (dk_at dksX2_atom_5 9 rfl rfl)
theorem dX2_atom_123 : decode cX2_atom 123 = .ok (.ldc_w 299, 3) := dk_19 1 43 (dk_at dksX2_atom_5 10 rfl rfl)
theorem dX2_atom_126 : decode cX2_atom 126 = .ok (.invokevirtual 74, 3) := dk_182 0 74 (dk_at dksX2_atom_5 13 rfl rfl)
theorem dX2_atom_129 : decode cX2_atom 129 = .ok (.ifCond .ne 13, 3) := dk_154 0 13 (dk_at dksX2_atom_5 16 rfl rfl)
theorem dX2_atom_132 : decode cX2_atom 132 = .ok (.aload_n 0, 1) := dk_42 (dk_at dksX2_atom_5 19 rfl rfl)
theorem dX2_atom_133 : decode cX2_atom 133 = .ok (.iconst 1, 1) := dk_4 (dk_at dksX2_atom_5 20 rfl rfl)
theorem dX2_atom_134 : decode cX2_atom 134 = .ok (.aload_n 0, 1) := dk_42 (dk_at dksX2_atom_5 21 rfl rfl)
theorem dX2_atom_135 : decode cX2_atom 135 = .ok (.getfield 61, 3) := dk_180 0 61 (dk_at dksX2_atom_6 0 rfl rfl)
theorem dX2_atom_138 : decode cX2_atom 138 = .ok (.invokevirtual 47, 3) := dk_182 0 47 (dk_at dksX2_atom_6 3 rfl rfl)
theorem dX2_atom_141 : decode cX2_atom 141 = .ok (.athrow, 1) := dk_191 (dk_at dksX2_atom_6 6 rfl rfl)
theorem dX2_atom_142 : decode cX2_atom 142 = .ok (.aload_n 0, 1) := dk_42 (dk_at dksX2_atom_6 7 rfl rfl)
theorem dX2_atom_143 : decode cX2_atom 143 = .ok (.aload_n 1, 1) := dk_43 (dk_at dksX2_atom_6 8 rfl rfl)
theorem dX2_atom_144 : decode cX2_atom 144 = .ok (.ldc_w 297, 3) := dk_19 1 41 (dk_at dksX2_atom_6 9 rfl rfl)
theorem dX2_atom_147 : decode cX2_atom 147 = .ok (.invokevirtual 74, 3) := dk_182 0 74 (dk_at dksX2_atom_6 12 rfl rfl)
theorem dX2_atom_150 : decode cX2_atom 150 = .ok (.ifCond .eq 7, 3) := dk_153 0 7 (dk_at dksX2_atom_6 15 rfl rfl)
theorem dX2_atom_153 : decode cX2_atom 153 = .ok (.iconst 1, 1) := dk_4 (dk_at dksX2_atom_6 18 rfl rfl)
theorem dX2_atom_154 : decode cX2_atom 154 = .ok (.goto 4, 3) := dk_167 0 4 (dk_at dksX2_atom_6 19 rfl rfl)
theorem dX2_atom_157 : decode cX2_atom 157 = .ok (.iconst 2, 1) := dk_5 (dk_at dksX2_atom_6 22 rfl rfl)
theorem dX2_atom_158 : decode cX2_atom 158 = .ok (.invokevirtual 272, 3) := dk_182 1 16 (dk_at dksX2_atom_7 0 rfl rfl)
theorem dX2_atom_161 : decode cX2_atom 161 = .ok (.areturn, 1) := dk_176 (dk_at dksX2_atom_7 3 rfl rfl)
abbrev cX2_within : ByteArray := prog_17_method_26_code
def yX2_within : MethodName := ⟨RX2, "within", "(I)LFirstSnuffer$Value;"⟩
def dkwX2_within_4 : List UInt8 := [176]
abbrev dktX2_within_4 : List UInt8 := dkwX2_within_4 ++ []
def dkwX2_within_3 : List UInt8 := [182, 0, 236, 183, 1, 13, 78, 42, 16, 41, 182, 0, 137, 42, 89, 180, 0, 119, 4, 100, 181, 0, 119, 45]
abbrev dktX2_within_3 : List UInt8 := dkwX2_within_3 ++ dktX2_within_4
def dkwX2_within_2 : List UInt8 := [42, 16, 44, 182, 0, 137, 187, 1, 11, 89, 27, 5, 160, 0, 7, 4, 167, 0, 4, 3, 44, 42]
abbrev dktX2_within_2 : List UInt8 := dkwX2_within_2 ++ dktX2_within_3
def dkwX2_within_1 : List UInt8 := [182, 1, 8, 42, 89, 180, 0, 36, 4, 96, 181, 0, 36, 42, 182, 0, 236, 77, 44, 78, 27, 158, 0, 32]
abbrev dktX2_within_1 : List UInt8 := dkwX2_within_1 ++ dktX2_within_2
def dkwX2_within_0 : List UInt8 := [42, 182, 0, 43, 16, 40, 159, 0, 13, 42, 4, 42, 180, 0, 36, 182, 0, 47, 191, 42, 42, 180, 0, 36]
abbrev dktX2_within_0 : List UInt8 := dkwX2_within_0 ++ dktX2_within_1
theorem dksX2_within_0 : cX2_within.data.toList.drop 0 = dktX2_within_0 := by decide +kernel
theorem dksX2_within_1 : cX2_within.data.toList.drop 24 = dktX2_within_1 := dk_seg dksX2_within_0 24 rfl rfl
theorem dksX2_within_2 : cX2_within.data.toList.drop 48 = dktX2_within_2 := dk_seg dksX2_within_1 24 rfl rfl
theorem dksX2_within_3 : cX2_within.data.toList.drop 70 = dktX2_within_3 := dk_seg dksX2_within_2 22 rfl rfl
theorem dksX2_within_4 : cX2_within.data.toList.drop 94 = dktX2_within_4 := dk_seg dksX2_within_3 24 rfl rfl
theorem dX2_within_0 : decode cX2_within 0 = .ok (.aload_n 0, 1) := dk_42 (dk_at dksX2_within_0 0 rfl rfl)
theorem dX2_within_1 : decode cX2_within 1 = .ok (.invokevirtual 43, 3) := dk_182 0 43 (dk_at dksX2_within_0 1 rfl rfl)
theorem dX2_within_4 : decode cX2_within 4 = .ok (.bipush 40, 2) := dk_16 40 (dk_at dksX2_within_0 4 rfl rfl)
theorem dX2_within_6 : decode cX2_within 6 = .ok (.if_icmp .eq 13, 3) := dk_159 0 13 (dk_at dksX2_within_0 6 rfl rfl)
theorem dX2_within_9 : decode cX2_within 9 = .ok (.aload_n 0, 1) := dk_42 (dk_at dksX2_within_0 9 rfl rfl)
theorem dX2_within_10 : decode cX2_within 10 = .ok (.iconst 1, 1) := dk_4 (dk_at dksX2_within_0 10 rfl rfl)
theorem dX2_within_11 : decode cX2_within 11 = .ok (.aload_n 0, 1) := dk_42 (dk_at dksX2_within_0 11 rfl rfl)
theorem dX2_within_12 : decode cX2_within 12 = .ok (.getfield 36, 3) := dk_180 0 36 (dk_at dksX2_within_0 12 rfl rfl)
theorem dX2_within_15 : decode cX2_within 15 = .ok (.invokevirtual 47, 3) := dk_182 0 47 (dk_at dksX2_within_0 15 rfl rfl)
theorem dX2_within_18 : decode cX2_within 18 = .ok (.athrow, 1) := dk_191 (dk_at dksX2_within_0 18 rfl rfl)
theorem dX2_within_19 : decode cX2_within 19 = .ok (.aload_n 0, 1) := dk_42 (dk_at dksX2_within_0 19 rfl rfl)
theorem dX2_within_20 : decode cX2_within 20 = .ok (.aload_n 0, 1) := dk_42 (dk_at dksX2_within_0 20 rfl rfl)
theorem dX2_within_21 : decode cX2_within 21 = .ok (.getfield 36, 3) := dk_180 0 36 (dk_at dksX2_within_0 21 rfl rfl)
theorem dX2_within_24 : decode cX2_within 24 = .ok (.invokevirtual 264, 3) := dk_182 1 8 (dk_at dksX2_within_1 0 rfl rfl)
theorem dX2_within_27 : decode cX2_within 27 = .ok (.aload_n 0, 1) := dk_42 (dk_at dksX2_within_1 3 rfl rfl)
theorem dX2_within_28 : decode cX2_within 28 = .ok (.dup, 1) := dk_89 (dk_at dksX2_within_1 4 rfl rfl)
theorem dX2_within_29 : decode cX2_within 29 = .ok (.getfield 36, 3) := dk_180 0 36 (dk_at dksX2_within_1 5 rfl rfl)
theorem dX2_within_32 : decode cX2_within 32 = .ok (.iconst 1, 1) := dk_4 (dk_at dksX2_within_1 8 rfl rfl)
theorem dX2_within_33 : decode cX2_within 33 = .ok (.iadd, 1) := dk_96 (dk_at dksX2_within_1 9 rfl rfl)
theorem dX2_within_34 : decode cX2_within 34 = .ok (.putfield 36, 3) := dk_181 0 36 (dk_at dksX2_within_1 10 rfl rfl)
theorem dX2_within_37 : decode cX2_within 37 = .ok (.aload_n 0, 1) := dk_42 (dk_at dksX2_within_1 13 rfl rfl)
theorem dX2_within_38 : decode cX2_within 38 = .ok (.invokevirtual 236, 3) := dk_182 0 236 (dk_at dksX2_within_1 14 rfl rfl)
theorem dX2_within_41 : decode cX2_within 41 = .ok (.astore_n 2, 1) := dk_77 (dk_at dksX2_within_1 17 rfl rfl)
theorem dX2_within_42 : decode cX2_within 42 = .ok (.aload_n 2, 1) := dk_44 (dk_at dksX2_within_1 18 rfl rfl)
theorem dX2_within_43 : decode cX2_within 43 = .ok (.astore_n 3, 1) := dk_78 (dk_at dksX2_within_1 19 rfl rfl)
theorem dX2_within_44 : decode cX2_within 44 = .ok (.iload_n 1, 1) := dk_27 (dk_at dksX2_within_1 20 rfl rfl)
theorem dX2_within_45 : decode cX2_within 45 = .ok (.ifCond .le 32, 3) := dk_158 0 32 (dk_at dksX2_within_1 21 rfl rfl)
theorem dX2_within_48 : decode cX2_within 48 = .ok (.aload_n 0, 1) := dk_42 (dk_at dksX2_within_2 0 rfl rfl)
theorem dX2_within_49 : decode cX2_within 49 = .ok (.bipush 44, 2) := dk_16 44 (dk_at dksX2_within_2 1 rfl rfl)
theorem dX2_within_51 : decode cX2_within 51 = .ok (.invokevirtual 137, 3) := dk_182 0 137 (dk_at dksX2_within_2 3 rfl rfl)
theorem dX2_within_54 : decode cX2_within 54 = .ok (.new 267, 3) := dk_187 1 11 (dk_at dksX2_within_2 6 rfl rfl)
theorem dX2_within_57 : decode cX2_within 57 = .ok (.dup, 1) := dk_89 (dk_at dksX2_within_2 9 rfl rfl)
theorem dX2_within_58 : decode cX2_within 58 = .ok (.iload_n 1, 1) := dk_27 (dk_at dksX2_within_2 10 rfl rfl)
theorem dX2_within_59 : decode cX2_within 59 = .ok (.iconst 2, 1) := dk_5 (dk_at dksX2_within_2 11 rfl rfl)
theorem dX2_within_60 : decode cX2_within 60 = .ok (.if_icmp .ne 7, 3) := dk_160 0 7 (dk_at dksX2_within_2 12 rfl rfl)
theorem dX2_within_63 : decode cX2_within 63 = .ok (.iconst 1, 1) := dk_4 (dk_at dksX2_within_2 15 rfl rfl)
theorem dX2_within_64 : decode cX2_within 64 = .ok (.goto 4, 3) := dk_167 0 4 (dk_at dksX2_within_2 16 rfl rfl)
theorem dX2_within_67 : decode cX2_within 67 = .ok (.iconst 0, 1) := dk_3 (dk_at dksX2_within_2 19 rfl rfl)
theorem dX2_within_68 : decode cX2_within 68 = .ok (.aload_n 2, 1) := dk_44 (dk_at dksX2_within_2 20 rfl rfl)
theorem dX2_within_69 : decode cX2_within 69 = .ok (.aload_n 0, 1) := dk_42 (dk_at dksX2_within_2 21 rfl rfl)
theorem dX2_within_70 : decode cX2_within 70 = .ok (.invokevirtual 236, 3) := dk_182 0 236 (dk_at dksX2_within_3 0 rfl rfl)
theorem dX2_within_73 : decode cX2_within 73 = .ok (.invokespecial 269, 3) := dk_183 1 13 (dk_at dksX2_within_3 3 rfl rfl)
theorem dX2_within_76 : decode cX2_within 76 = .ok (.astore_n 3, 1) := dk_78 (dk_at dksX2_within_3 6 rfl rfl)
theorem dX2_within_77 : decode cX2_within 77 = .ok (.aload_n 0, 1) := dk_42 (dk_at dksX2_within_3 7 rfl rfl)
theorem dX2_within_78 : decode cX2_within 78 = .ok (.bipush 41, 2) := dk_16 41 (dk_at dksX2_within_3 8 rfl rfl)
theorem dX2_within_80 : decode cX2_within 80 = .ok (.invokevirtual 137, 3) := dk_182 0 137 (dk_at dksX2_within_3 10 rfl rfl)
theorem dX2_within_83 : decode cX2_within 83 = .ok (.aload_n 0, 1) := dk_42 (dk_at dksX2_within_3 13 rfl rfl)
theorem dX2_within_84 : decode cX2_within 84 = .ok (.dup, 1) := dk_89 (dk_at dksX2_within_3 14 rfl rfl)
theorem dX2_within_85 : decode cX2_within 85 = .ok (.getfield 119, 3) := dk_180 0 119 (dk_at dksX2_within_3 15 rfl rfl)
theorem dX2_within_88 : decode cX2_within 88 = .ok (.iconst 1, 1) := dk_4 (dk_at dksX2_within_3 18 rfl rfl)
theorem dX2_within_89 : decode cX2_within 89 = .ok (.isub, 1) := dk_100 (dk_at dksX2_within_3 19 rfl rfl)
theorem dX2_within_90 : decode cX2_within 90 = .ok (.putfield 119, 3) := dk_181 0 119 (dk_at dksX2_within_3 20 rfl rfl)
theorem dX2_within_93 : decode cX2_within 93 = .ok (.aload_n 3, 1) := dk_45 (dk_at dksX2_within_3 23 rfl rfl)
theorem dX2_within_94 : decode cX2_within 94 = .ok (.areturn, 1) := dk_176 (dk_at dksX2_within_4 0 rfl rfl)
abbrev cX2_opens : ByteArray := prog_17_method_25_code
def yX2_opens : MethodName := ⟨RX2, "opens", "(I)V"⟩
def dkwX2_opens_1 : List UInt8 := [181, 0, 119, 177]
abbrev dktX2_opens_1 : List UInt8 := dkwX2_opens_1 ++ []
def dkwX2_opens_0 : List UInt8 := [42, 180, 0, 119, 16, 6, 160, 0, 10, 42, 7, 27, 182, 0, 47, 191, 42, 89, 180, 0, 119, 4, 96]
abbrev dktX2_opens_0 : List UInt8 := dkwX2_opens_0 ++ dktX2_opens_1
theorem dksX2_opens_0 : cX2_opens.data.toList.drop 0 = dktX2_opens_0 := by decide +kernel
theorem dksX2_opens_1 : cX2_opens.data.toList.drop 23 = dktX2_opens_1 := dk_seg dksX2_opens_0 23 rfl rfl
theorem dX2_opens_0 : decode cX2_opens 0 = .ok (.aload_n 0, 1) := dk_42 (dk_at dksX2_opens_0 0 rfl rfl)
theorem dX2_opens_1 : decode cX2_opens 1 = .ok (.getfield 119, 3) := dk_180 0 119 (dk_at dksX2_opens_0 1 rfl rfl)
theorem dX2_opens_4 : decode cX2_opens 4 = .ok (.bipush 6, 2) := dk_16 6 (dk_at dksX2_opens_0 4 rfl rfl)
theorem dX2_opens_6 : decode cX2_opens 6 = .ok (.if_icmp .ne 10, 3) := dk_160 0 10 (dk_at dksX2_opens_0 6 rfl rfl)
theorem dX2_opens_9 : decode cX2_opens 9 = .ok (.aload_n 0, 1) := dk_42 (dk_at dksX2_opens_0 9 rfl rfl)
theorem dX2_opens_10 : decode cX2_opens 10 = .ok (.iconst 4, 1) := dk_7 (dk_at dksX2_opens_0 10 rfl rfl)
theorem dX2_opens_11 : decode cX2_opens 11 = .ok (.iload_n 1, 1) := dk_27 (dk_at dksX2_opens_0 11 rfl rfl)
theorem dX2_opens_12 : decode cX2_opens 12 = .ok (.invokevirtual 47, 3) := dk_182 0 47 (dk_at dksX2_opens_0 12 rfl rfl)
theorem dX2_opens_15 : decode cX2_opens 15 = .ok (.athrow, 1) := dk_191 (dk_at dksX2_opens_0 15 rfl rfl)
theorem dX2_opens_16 : decode cX2_opens 16 = .ok (.aload_n 0, 1) := dk_42 (dk_at dksX2_opens_0 16 rfl rfl)
theorem dX2_opens_17 : decode cX2_opens 17 = .ok (.dup, 1) := dk_89 (dk_at dksX2_opens_0 17 rfl rfl)
theorem dX2_opens_18 : decode cX2_opens 18 = .ok (.getfield 119, 3) := dk_180 0 119 (dk_at dksX2_opens_0 18 rfl rfl)
theorem dX2_opens_21 : decode cX2_opens 21 = .ok (.iconst 1, 1) := dk_4 (dk_at dksX2_opens_0 21 rfl rfl)
theorem dX2_opens_22 : decode cX2_opens 22 = .ok (.iadd, 1) := dk_96 (dk_at dksX2_opens_0 22 rfl rfl)
theorem dX2_opens_23 : decode cX2_opens 23 = .ok (.putfield 119, 3) := dk_181 0 119 (dk_at dksX2_opens_1 0 rfl rfl)
theorem dX2_opens_26 : decode cX2_opens 26 = .ok (.return_, 1) := dk_177 (dk_at dksX2_opens_1 3 rfl rfl)
abbrev cX2_must : ByteArray := prog_17_method_5_code
def yX2_must : MethodName := ⟨RX2, "must", "(I)V"⟩
def dkwX2_must_1 : List UInt8 := [96, 181, 0, 36, 177]
abbrev dktX2_must_1 : List UInt8 := dkwX2_must_1 ++ []
def dkwX2_must_0 : List UInt8 := [42, 182, 0, 43, 27, 159, 0, 13, 42, 4, 42, 180, 0, 36, 182, 0, 47, 191, 42, 89, 180, 0, 36, 4]
abbrev dktX2_must_0 : List UInt8 := dkwX2_must_0 ++ dktX2_must_1
theorem dksX2_must_0 : cX2_must.data.toList.drop 0 = dktX2_must_0 := by decide +kernel
theorem dksX2_must_1 : cX2_must.data.toList.drop 24 = dktX2_must_1 := dk_seg dksX2_must_0 24 rfl rfl
theorem dX2_must_0 : decode cX2_must 0 = .ok (.aload_n 0, 1) := dk_42 (dk_at dksX2_must_0 0 rfl rfl)
theorem dX2_must_1 : decode cX2_must 1 = .ok (.invokevirtual 43, 3) := dk_182 0 43 (dk_at dksX2_must_0 1 rfl rfl)
theorem dX2_must_4 : decode cX2_must 4 = .ok (.iload_n 1, 1) := dk_27 (dk_at dksX2_must_0 4 rfl rfl)
theorem dX2_must_5 : decode cX2_must 5 = .ok (.if_icmp .eq 13, 3) := dk_159 0 13 (dk_at dksX2_must_0 5 rfl rfl)
theorem dX2_must_8 : decode cX2_must 8 = .ok (.aload_n 0, 1) := dk_42 (dk_at dksX2_must_0 8 rfl rfl)
theorem dX2_must_9 : decode cX2_must 9 = .ok (.iconst 1, 1) := dk_4 (dk_at dksX2_must_0 9 rfl rfl)
theorem dX2_must_10 : decode cX2_must 10 = .ok (.aload_n 0, 1) := dk_42 (dk_at dksX2_must_0 10 rfl rfl)
theorem dX2_must_11 : decode cX2_must 11 = .ok (.getfield 36, 3) := dk_180 0 36 (dk_at dksX2_must_0 11 rfl rfl)
theorem dX2_must_14 : decode cX2_must 14 = .ok (.invokevirtual 47, 3) := dk_182 0 47 (dk_at dksX2_must_0 14 rfl rfl)
theorem dX2_must_17 : decode cX2_must 17 = .ok (.athrow, 1) := dk_191 (dk_at dksX2_must_0 17 rfl rfl)
theorem dX2_must_18 : decode cX2_must 18 = .ok (.aload_n 0, 1) := dk_42 (dk_at dksX2_must_0 18 rfl rfl)
theorem dX2_must_19 : decode cX2_must 19 = .ok (.dup, 1) := dk_89 (dk_at dksX2_must_0 19 rfl rfl)
theorem dX2_must_20 : decode cX2_must 20 = .ok (.getfield 36, 3) := dk_180 0 36 (dk_at dksX2_must_0 20 rfl rfl)
theorem dX2_must_23 : decode cX2_must 23 = .ok (.iconst 1, 1) := dk_4 (dk_at dksX2_must_0 23 rfl rfl)
theorem dX2_must_24 : decode cX2_must 24 = .ok (.iadd, 1) := dk_96 (dk_at dksX2_must_1 0 rfl rfl)
theorem dX2_must_25 : decode cX2_must 25 = .ok (.putfield 36, 3) := dk_181 0 36 (dk_at dksX2_must_1 1 rfl rfl)
theorem dX2_must_28 : decode cX2_must 28 = .ok (.return_, 1) := dk_177 (dk_at dksX2_must_1 4 rfl rfl)
abbrev cX2_looked : ByteArray := prog_17_method_31_code
def yX2_looked : MethodName := ⟨RX2, "looked", "(I)LFirstSnuffer$Value;"⟩
def dkwX2_looked_1 : List UInt8 := [77, 42, 89, 180, 0, 119, 4, 100, 181, 0, 119, 44, 176]
abbrev dktX2_looked_1 : List UInt8 := dkwX2_looked_1 ++ []
def dkwX2_looked_0 : List UInt8 := [42, 42, 180, 0, 61, 182, 1, 8, 187, 1, 83, 89, 42, 180, 0, 3, 27, 42, 182, 1, 5, 183, 1, 85]
abbrev dktX2_looked_0 : List UInt8 := dkwX2_looked_0 ++ dktX2_looked_1
theorem dksX2_looked_0 : cX2_looked.data.toList.drop 0 = dktX2_looked_0 := by decide +kernel
theorem dksX2_looked_1 : cX2_looked.data.toList.drop 24 = dktX2_looked_1 := dk_seg dksX2_looked_0 24 rfl rfl
theorem dX2_looked_0 : decode cX2_looked 0 = .ok (.aload_n 0, 1) := dk_42 (dk_at dksX2_looked_0 0 rfl rfl)
theorem dX2_looked_1 : decode cX2_looked 1 = .ok (.aload_n 0, 1) := dk_42 (dk_at dksX2_looked_0 1 rfl rfl)
theorem dX2_looked_2 : decode cX2_looked 2 = .ok (.getfield 61, 3) := dk_180 0 61 (dk_at dksX2_looked_0 2 rfl rfl)
theorem dX2_looked_5 : decode cX2_looked 5 = .ok (.invokevirtual 264, 3) := dk_182 1 8 (dk_at dksX2_looked_0 5 rfl rfl)
theorem dX2_looked_8 : decode cX2_looked 8 = .ok (.new 339, 3) := dk_187 1 83 (dk_at dksX2_looked_0 8 rfl rfl)
theorem dX2_looked_11 : decode cX2_looked 11 = .ok (.dup, 1) := dk_89 (dk_at dksX2_looked_0 11 rfl rfl)
theorem dX2_looked_12 : decode cX2_looked 12 = .ok (.aload_n 0, 1) := dk_42 (dk_at dksX2_looked_0 12 rfl rfl)
theorem dX2_looked_13 : decode cX2_looked 13 = .ok (.getfield 3, 3) := dk_180 0 3 (dk_at dksX2_looked_0 13 rfl rfl)
theorem dX2_looked_16 : decode cX2_looked 16 = .ok (.iload_n 1, 1) := dk_27 (dk_at dksX2_looked_0 16 rfl rfl)
theorem dX2_looked_17 : decode cX2_looked 17 = .ok (.aload_n 0, 1) := dk_42 (dk_at dksX2_looked_0 17 rfl rfl)
theorem dX2_looked_18 : decode cX2_looked 18 = .ok (.invokevirtual 261, 3) := dk_182 1 5 (dk_at dksX2_looked_0 18 rfl rfl)
theorem dX2_looked_21 : decode cX2_looked 21 = .ok (.invokespecial 341, 3) := dk_183 1 85 (dk_at dksX2_looked_0 21 rfl rfl)
theorem dX2_looked_24 : decode cX2_looked 24 = .ok (.astore_n 2, 1) := dk_77 (dk_at dksX2_looked_1 0 rfl rfl)
theorem dX2_looked_25 : decode cX2_looked 25 = .ok (.aload_n 0, 1) := dk_42 (dk_at dksX2_looked_1 1 rfl rfl)
theorem dX2_looked_26 : decode cX2_looked 26 = .ok (.dup, 1) := dk_89 (dk_at dksX2_looked_1 2 rfl rfl)
theorem dX2_looked_27 : decode cX2_looked 27 = .ok (.getfield 119, 3) := dk_180 0 119 (dk_at dksX2_looked_1 3 rfl rfl)
theorem dX2_looked_30 : decode cX2_looked 30 = .ok (.iconst 1, 1) := dk_4 (dk_at dksX2_looked_1 6 rfl rfl)
theorem dX2_looked_31 : decode cX2_looked 31 = .ok (.isub, 1) := dk_100 (dk_at dksX2_looked_1 7 rfl rfl)
theorem dX2_looked_32 : decode cX2_looked 32 = .ok (.putfield 119, 3) := dk_181 0 119 (dk_at dksX2_looked_1 8 rfl rfl)
theorem dX2_looked_35 : decode cX2_looked 35 = .ok (.aload_n 2, 1) := dk_44 (dk_at dksX2_looked_1 11 rfl rfl)
theorem dX2_looked_36 : decode cX2_looked 36 = .ok (.areturn, 1) := dk_176 (dk_at dksX2_looked_1 12 rfl rfl)
abbrev cX2_takes : ByteArray := prog_17_method_22_code
def yX2_takes : MethodName := ⟨RX2, "takes", "(I)Z"⟩
def dkwX2_takes_1 : List UInt8 := [167, 0, 4, 3, 96, 181, 0, 36, 28, 172]
abbrev dktX2_takes_1 : List UInt8 := dkwX2_takes_1 ++ []
def dkwX2_takes_0 : List UInt8 := [42, 182, 0, 43, 27, 160, 0, 7, 4, 167, 0, 4, 3, 61, 42, 89, 180, 0, 36, 28, 153, 0, 7, 4]
abbrev dktX2_takes_0 : List UInt8 := dkwX2_takes_0 ++ dktX2_takes_1
theorem dksX2_takes_0 : cX2_takes.data.toList.drop 0 = dktX2_takes_0 := by decide +kernel
theorem dksX2_takes_1 : cX2_takes.data.toList.drop 24 = dktX2_takes_1 := dk_seg dksX2_takes_0 24 rfl rfl
theorem dX2_takes_0 : decode cX2_takes 0 = .ok (.aload_n 0, 1) := dk_42 (dk_at dksX2_takes_0 0 rfl rfl)
theorem dX2_takes_1 : decode cX2_takes 1 = .ok (.invokevirtual 43, 3) := dk_182 0 43 (dk_at dksX2_takes_0 1 rfl rfl)
theorem dX2_takes_4 : decode cX2_takes 4 = .ok (.iload_n 1, 1) := dk_27 (dk_at dksX2_takes_0 4 rfl rfl)
theorem dX2_takes_5 : decode cX2_takes 5 = .ok (.if_icmp .ne 7, 3) := dk_160 0 7 (dk_at dksX2_takes_0 5 rfl rfl)
theorem dX2_takes_8 : decode cX2_takes 8 = .ok (.iconst 1, 1) := dk_4 (dk_at dksX2_takes_0 8 rfl rfl)
theorem dX2_takes_9 : decode cX2_takes 9 = .ok (.goto 4, 3) := dk_167 0 4 (dk_at dksX2_takes_0 9 rfl rfl)
theorem dX2_takes_12 : decode cX2_takes 12 = .ok (.iconst 0, 1) := dk_3 (dk_at dksX2_takes_0 12 rfl rfl)
theorem dX2_takes_13 : decode cX2_takes 13 = .ok (.istore_n 2, 1) := dk_61 (dk_at dksX2_takes_0 13 rfl rfl)
theorem dX2_takes_14 : decode cX2_takes 14 = .ok (.aload_n 0, 1) := dk_42 (dk_at dksX2_takes_0 14 rfl rfl)
theorem dX2_takes_15 : decode cX2_takes 15 = .ok (.dup, 1) := dk_89 (dk_at dksX2_takes_0 15 rfl rfl)
theorem dX2_takes_16 : decode cX2_takes 16 = .ok (.getfield 36, 3) := dk_180 0 36 (dk_at dksX2_takes_0 16 rfl rfl)
theorem dX2_takes_19 : decode cX2_takes 19 = .ok (.iload_n 2, 1) := dk_28 (dk_at dksX2_takes_0 19 rfl rfl)
theorem dX2_takes_20 : decode cX2_takes 20 = .ok (.ifCond .eq 7, 3) := dk_153 0 7 (dk_at dksX2_takes_0 20 rfl rfl)
theorem dX2_takes_23 : decode cX2_takes 23 = .ok (.iconst 1, 1) := dk_4 (dk_at dksX2_takes_0 23 rfl rfl)
theorem dX2_takes_24 : decode cX2_takes 24 = .ok (.goto 4, 3) := dk_167 0 4 (dk_at dksX2_takes_1 0 rfl rfl)
theorem dX2_takes_27 : decode cX2_takes 27 = .ok (.iconst 0, 1) := dk_3 (dk_at dksX2_takes_1 3 rfl rfl)
theorem dX2_takes_28 : decode cX2_takes 28 = .ok (.iadd, 1) := dk_96 (dk_at dksX2_takes_1 4 rfl rfl)
theorem dX2_takes_29 : decode cX2_takes 29 = .ok (.putfield 36, 3) := dk_181 0 36 (dk_at dksX2_takes_1 5 rfl rfl)
theorem dX2_takes_32 : decode cX2_takes 32 = .ok (.iload_n 2, 1) := dk_28 (dk_at dksX2_takes_1 8 rfl rfl)
theorem dX2_takes_33 : decode cX2_takes 33 = .ok (.ireturn, 1) := dk_172 (dk_at dksX2_takes_1 9 rfl rfl)
abbrev cX2_test : ByteArray := prog_17_method_28_code
def yX2_test : MethodName := ⟨RX2, "test", "()LFirstSnuffer$Test;"⟩
def dkwX2_test_2 : List UInt8 := [167, 255, 232, 43, 176]
abbrev dktX2_test_2 : List UInt8 := dkwX2_test_2 ++ []
def dkwX2_test_1 : List UInt8 := [19, 1, 56, 182, 1, 58, 153, 0, 20, 43, 180, 1, 50, 42, 182, 1, 53, 185, 0, 167, 2, 0, 87]
abbrev dktX2_test_1 : List UInt8 := dkwX2_test_1 ++ dktX2_test_2
def dkwX2_test_0 : List UInt8 := [187, 1, 45, 89, 3, 183, 1, 47, 76, 43, 180, 1, 50, 42, 182, 1, 53, 185, 0, 167, 2, 0, 87, 42]
abbrev dktX2_test_0 : List UInt8 := dkwX2_test_0 ++ dktX2_test_1
theorem dksX2_test_0 : cX2_test.data.toList.drop 0 = dktX2_test_0 := by decide +kernel
theorem dksX2_test_1 : cX2_test.data.toList.drop 24 = dktX2_test_1 := dk_seg dksX2_test_0 24 rfl rfl
theorem dksX2_test_2 : cX2_test.data.toList.drop 47 = dktX2_test_2 := dk_seg dksX2_test_1 23 rfl rfl
theorem dX2_test_0 : decode cX2_test 0 = .ok (.new 301, 3) := dk_187 1 45 (dk_at dksX2_test_0 0 rfl rfl)
theorem dX2_test_3 : decode cX2_test 3 = .ok (.dup, 1) := dk_89 (dk_at dksX2_test_0 3 rfl rfl)
theorem dX2_test_4 : decode cX2_test 4 = .ok (.iconst 0, 1) := dk_3 (dk_at dksX2_test_0 4 rfl rfl)
theorem dX2_test_5 : decode cX2_test 5 = .ok (.invokespecial 303, 3) := dk_183 1 47 (dk_at dksX2_test_0 5 rfl rfl)
theorem dX2_test_8 : decode cX2_test 8 = .ok (.astore_n 1, 1) := dk_76 (dk_at dksX2_test_0 8 rfl rfl)
theorem dX2_test_9 : decode cX2_test 9 = .ok (.aload_n 1, 1) := dk_43 (dk_at dksX2_test_0 9 rfl rfl)
theorem dX2_test_10 : decode cX2_test 10 = .ok (.getfield 306, 3) := dk_180 1 50 (dk_at dksX2_test_0 10 rfl rfl)
theorem dX2_test_13 : decode cX2_test 13 = .ok (.aload_n 0, 1) := dk_42 (dk_at dksX2_test_0 13 rfl rfl)
theorem dX2_test_14 : decode cX2_test 14 = .ok (.invokevirtual 309, 3) := dk_182 1 53 (dk_at dksX2_test_0 14 rfl rfl)
theorem dX2_test_17 : decode cX2_test 17 = .ok (.invokeinterface 167 2, 5) := by decide +kernel
theorem dX2_test_22 : decode cX2_test 22 = .ok (.pop, 1) := dk_87 (dk_at dksX2_test_0 22 rfl rfl)
theorem dX2_test_23 : decode cX2_test 23 = .ok (.aload_n 0, 1) := dk_42 (dk_at dksX2_test_0 23 rfl rfl)
theorem dX2_test_24 : decode cX2_test 24 = .ok (.ldc_w 312, 3) := dk_19 1 56 (dk_at dksX2_test_1 0 rfl rfl)
theorem dX2_test_27 : decode cX2_test 27 = .ok (.invokevirtual 314, 3) := dk_182 1 58 (dk_at dksX2_test_1 3 rfl rfl)
theorem dX2_test_30 : decode cX2_test 30 = .ok (.ifCond .eq 20, 3) := dk_153 0 20 (dk_at dksX2_test_1 6 rfl rfl)
theorem dX2_test_33 : decode cX2_test 33 = .ok (.aload_n 1, 1) := dk_43 (dk_at dksX2_test_1 9 rfl rfl)
theorem dX2_test_34 : decode cX2_test 34 = .ok (.getfield 306, 3) := dk_180 1 50 (dk_at dksX2_test_1 10 rfl rfl)
theorem dX2_test_37 : decode cX2_test 37 = .ok (.aload_n 0, 1) := dk_42 (dk_at dksX2_test_1 13 rfl rfl)
theorem dX2_test_38 : decode cX2_test 38 = .ok (.invokevirtual 309, 3) := dk_182 1 53 (dk_at dksX2_test_1 14 rfl rfl)
theorem dX2_test_41 : decode cX2_test 41 = .ok (.invokeinterface 167 2, 5) := by decide +kernel
theorem dX2_test_46 : decode cX2_test 46 = .ok (.pop, 1) := dk_87 (dk_at dksX2_test_1 22 rfl rfl)
theorem dX2_test_47 : decode cX2_test 47 = .ok (.goto (-24), 3) := dk_167 255 232 (dk_at dksX2_test_2 0 rfl rfl)
theorem dX2_test_50 : decode cX2_test 50 = .ok (.aload_n 1, 1) := dk_43 (dk_at dksX2_test_2 3 rfl rfl)
theorem dX2_test_51 : decode cX2_test 51 = .ok (.areturn, 1) := dk_176 (dk_at dksX2_test_2 4 rfl rfl)
abbrev cX2_both : ByteArray := prog_17_method_29_code
def yX2_both : MethodName := ⟨RX2, "both", "()LFirstSnuffer$Test;"⟩
def dkwX2_both_2 : List UInt8 := [167, 255, 232, 43, 176]
abbrev dktX2_both_2 : List UInt8 := dkwX2_both_2 ++ []
def dkwX2_both_1 : List UInt8 := [19, 1, 64, 182, 1, 58, 153, 0, 20, 43, 180, 1, 50, 42, 182, 1, 61, 185, 0, 167, 2, 0, 87]
abbrev dktX2_both_1 : List UInt8 := dkwX2_both_1 ++ dktX2_both_2
def dkwX2_both_0 : List UInt8 := [187, 1, 45, 89, 4, 183, 1, 47, 76, 43, 180, 1, 50, 42, 182, 1, 61, 185, 0, 167, 2, 0, 87, 42]
abbrev dktX2_both_0 : List UInt8 := dkwX2_both_0 ++ dktX2_both_1
theorem dksX2_both_0 : cX2_both.data.toList.drop 0 = dktX2_both_0 := by decide +kernel
theorem dksX2_both_1 : cX2_both.data.toList.drop 24 = dktX2_both_1 := dk_seg dksX2_both_0 24 rfl rfl
theorem dksX2_both_2 : cX2_both.data.toList.drop 47 = dktX2_both_2 := dk_seg dksX2_both_1 23 rfl rfl
theorem dX2_both_0 : decode cX2_both 0 = .ok (.new 301, 3) := dk_187 1 45 (dk_at dksX2_both_0 0 rfl rfl)
theorem dX2_both_3 : decode cX2_both 3 = .ok (.dup, 1) := dk_89 (dk_at dksX2_both_0 3 rfl rfl)
theorem dX2_both_4 : decode cX2_both 4 = .ok (.iconst 1, 1) := dk_4 (dk_at dksX2_both_0 4 rfl rfl)
theorem dX2_both_5 : decode cX2_both 5 = .ok (.invokespecial 303, 3) := dk_183 1 47 (dk_at dksX2_both_0 5 rfl rfl)
theorem dX2_both_8 : decode cX2_both 8 = .ok (.astore_n 1, 1) := dk_76 (dk_at dksX2_both_0 8 rfl rfl)
theorem dX2_both_9 : decode cX2_both 9 = .ok (.aload_n 1, 1) := dk_43 (dk_at dksX2_both_0 9 rfl rfl)
theorem dX2_both_10 : decode cX2_both 10 = .ok (.getfield 306, 3) := dk_180 1 50 (dk_at dksX2_both_0 10 rfl rfl)
theorem dX2_both_13 : decode cX2_both 13 = .ok (.aload_n 0, 1) := dk_42 (dk_at dksX2_both_0 13 rfl rfl)
theorem dX2_both_14 : decode cX2_both 14 = .ok (.invokevirtual 317, 3) := dk_182 1 61 (dk_at dksX2_both_0 14 rfl rfl)
theorem dX2_both_17 : decode cX2_both 17 = .ok (.invokeinterface 167 2, 5) := by decide +kernel
theorem dX2_both_22 : decode cX2_both 22 = .ok (.pop, 1) := dk_87 (dk_at dksX2_both_0 22 rfl rfl)
theorem dX2_both_23 : decode cX2_both 23 = .ok (.aload_n 0, 1) := dk_42 (dk_at dksX2_both_0 23 rfl rfl)
theorem dX2_both_24 : decode cX2_both 24 = .ok (.ldc_w 320, 3) := dk_19 1 64 (dk_at dksX2_both_1 0 rfl rfl)
theorem dX2_both_27 : decode cX2_both 27 = .ok (.invokevirtual 314, 3) := dk_182 1 58 (dk_at dksX2_both_1 3 rfl rfl)
theorem dX2_both_30 : decode cX2_both 30 = .ok (.ifCond .eq 20, 3) := dk_153 0 20 (dk_at dksX2_both_1 6 rfl rfl)
theorem dX2_both_33 : decode cX2_both 33 = .ok (.aload_n 1, 1) := dk_43 (dk_at dksX2_both_1 9 rfl rfl)
theorem dX2_both_34 : decode cX2_both 34 = .ok (.getfield 306, 3) := dk_180 1 50 (dk_at dksX2_both_1 10 rfl rfl)
theorem dX2_both_37 : decode cX2_both 37 = .ok (.aload_n 0, 1) := dk_42 (dk_at dksX2_both_1 13 rfl rfl)
theorem dX2_both_38 : decode cX2_both 38 = .ok (.invokevirtual 317, 3) := dk_182 1 61 (dk_at dksX2_both_1 14 rfl rfl)
theorem dX2_both_41 : decode cX2_both 41 = .ok (.invokeinterface 167 2, 5) := by decide +kernel
theorem dX2_both_46 : decode cX2_both 46 = .ok (.pop, 1) := dk_87 (dk_at dksX2_both_1 22 rfl rfl)
theorem dX2_both_47 : decode cX2_both 47 = .ok (.goto (-24), 3) := dk_167 255 232 (dk_at dksX2_both_2 0 rfl rfl)
theorem dX2_both_50 : decode cX2_both 50 = .ok (.aload_n 1, 1) := dk_43 (dk_at dksX2_both_2 3 rfl rfl)
theorem dX2_both_51 : decode cX2_both 51 = .ok (.areturn, 1) := dk_176 (dk_at dksX2_both_2 4 rfl rfl)
abbrev cX2_fact : ByteArray := prog_17_method_30_code
def yX2_fact : MethodName := ⟨RX2, "fact", "()LFirstSnuffer$Test;"⟩
def dkwX2_fact_7 : List UInt8 := [183, 1, 80, 176]
abbrev dktX2_fact_7 : List UInt8 := dkwX2_fact_7 ++ []
def dkwX2_fact_6 : List UInt8 := [182, 0, 47, 191, 42, 89, 180, 0, 36, 4, 96, 181, 0, 36, 187, 1, 78, 89, 43, 28, 42, 182, 0, 236]
abbrev dktX2_fact_6 : List UInt8 := dkwX2_fact_6 ++ dktX2_fact_7
def dkwX2_fact_5 : List UInt8 := [28, 16, 60, 159, 0, 25, 28, 16, 62, 159, 0, 19, 28, 16, 61, 159, 0, 13, 42, 4, 42, 180, 0, 36]
abbrev dktX2_fact_5 : List UInt8 := dkwX2_fact_5 ++ dktX2_fact_6
def dkwX2_fact_4 : List UInt8 := [182, 1, 58, 153, 0, 11, 187, 1, 75, 89, 183, 1, 77, 176, 42, 182, 0, 236, 76, 42, 182, 0, 43, 61]
abbrev dktX2_fact_4 : List UInt8 := dkwX2_fact_4 ++ dktX2_fact_5
def dkwX2_fact_3 : List UInt8 := [42, 182, 1, 61, 183, 1, 70, 76, 42, 89, 180, 0, 119, 4, 100, 181, 0, 119, 43, 176, 42, 19, 1, 73]
abbrev dktX2_fact_3 : List UInt8 := dkwX2_fact_3 ++ dktX2_fact_4
def dkwX2_fact_2 : List UInt8 := [43, 176, 42, 19, 1, 66, 182, 1, 58, 153, 0, 35, 42, 42, 180, 0, 61, 182, 1, 8, 187, 1, 68, 89]
abbrev dktX2_fact_2 : List UInt8 := dkwX2_fact_2 ++ dktX2_fact_3
def dkwX2_fact_1 : List UInt8 := [181, 0, 36, 42, 182, 0, 243, 76, 42, 16, 93, 182, 0, 137, 42, 89, 180, 0, 119, 4, 100, 181, 0, 119]
abbrev dktX2_fact_1 : List UInt8 := dkwX2_fact_1 ++ dktX2_fact_2
def dkwX2_fact_0 : List UInt8 := [42, 182, 0, 43, 16, 91, 160, 0, 44, 42, 42, 180, 0, 36, 182, 1, 8, 42, 89, 180, 0, 36, 4, 96]
abbrev dktX2_fact_0 : List UInt8 := dkwX2_fact_0 ++ dktX2_fact_1
theorem dksX2_fact_0 : cX2_fact.data.toList.drop 0 = dktX2_fact_0 := by decide +kernel
theorem dksX2_fact_1 : cX2_fact.data.toList.drop 24 = dktX2_fact_1 := dk_seg dksX2_fact_0 24 rfl rfl
theorem dksX2_fact_2 : cX2_fact.data.toList.drop 48 = dktX2_fact_2 := dk_seg dksX2_fact_1 24 rfl rfl
theorem dksX2_fact_3 : cX2_fact.data.toList.drop 72 = dktX2_fact_3 := dk_seg dksX2_fact_2 24 rfl rfl
theorem dksX2_fact_4 : cX2_fact.data.toList.drop 96 = dktX2_fact_4 := dk_seg dksX2_fact_3 24 rfl rfl
theorem dksX2_fact_5 : cX2_fact.data.toList.drop 120 = dktX2_fact_5 := dk_seg dksX2_fact_4 24 rfl rfl
theorem dksX2_fact_6 : cX2_fact.data.toList.drop 144 = dktX2_fact_6 := dk_seg dksX2_fact_5 24 rfl rfl
theorem dksX2_fact_7 : cX2_fact.data.toList.drop 168 = dktX2_fact_7 := dk_seg dksX2_fact_6 24 rfl rfl
theorem dX2_fact_0 : decode cX2_fact 0 = .ok (.aload_n 0, 1) := dk_42 (dk_at dksX2_fact_0 0 rfl rfl)
theorem dX2_fact_1 : decode cX2_fact 1 = .ok (.invokevirtual 43, 3) := dk_182 0 43 (dk_at dksX2_fact_0 1 rfl rfl)
theorem dX2_fact_4 : decode cX2_fact 4 = .ok (.bipush 91, 2) := dk_16 91 (dk_at dksX2_fact_0 4 rfl rfl)
theorem dX2_fact_6 : decode cX2_fact 6 = .ok (.if_icmp .ne 44, 3) := dk_160 0 44 (dk_at dksX2_fact_0 6 rfl rfl)
theorem dX2_fact_9 : decode cX2_fact 9 = .ok (.aload_n 0, 1) := dk_42 (dk_at dksX2_fact_0 9 rfl rfl)
theorem dX2_fact_10 : decode cX2_fact 10 = .ok (.aload_n 0, 1) := dk_42 (dk_at dksX2_fact_0 10 rfl rfl)
theorem dX2_fact_11 : decode cX2_fact 11 = .ok (.getfield 36, 3) := dk_180 0 36 (dk_at dksX2_fact_0 11 rfl rfl)
theorem dX2_fact_14 : decode cX2_fact 14 = .ok (.invokevirtual 264, 3) := dk_182 1 8 (dk_at dksX2_fact_0 14 rfl rfl)
theorem dX2_fact_17 : decode cX2_fact 17 = .ok (.aload_n 0, 1) := dk_42 (dk_at dksX2_fact_0 17 rfl rfl)
theorem dX2_fact_18 : decode cX2_fact 18 = .ok (.dup, 1) := dk_89 (dk_at dksX2_fact_0 18 rfl rfl)
theorem dX2_fact_19 : decode cX2_fact 19 = .ok (.getfield 36, 3) := dk_180 0 36 (dk_at dksX2_fact_0 19 rfl rfl)
theorem dX2_fact_22 : decode cX2_fact 22 = .ok (.iconst 1, 1) := dk_4 (dk_at dksX2_fact_0 22 rfl rfl)
theorem dX2_fact_23 : decode cX2_fact 23 = .ok (.iadd, 1) := dk_96 (dk_at dksX2_fact_0 23 rfl rfl)
theorem dX2_fact_24 : decode cX2_fact 24 = .ok (.putfield 36, 3) := dk_181 0 36 (dk_at dksX2_fact_1 0 rfl rfl)
theorem dX2_fact_27 : decode cX2_fact 27 = .ok (.aload_n 0, 1) := dk_42 (dk_at dksX2_fact_1 3 rfl rfl)
theorem dX2_fact_28 : decode cX2_fact 28 = .ok (.invokevirtual 243, 3) := dk_182 0 243 (dk_at dksX2_fact_1 4 rfl rfl)
theorem dX2_fact_31 : decode cX2_fact 31 = .ok (.astore_n 1, 1) := dk_76 (dk_at dksX2_fact_1 7 rfl rfl)
theorem dX2_fact_32 : decode cX2_fact 32 = .ok (.aload_n 0, 1) := dk_42 (dk_at dksX2_fact_1 8 rfl rfl)
theorem dX2_fact_33 : decode cX2_fact 33 = .ok (.bipush 93, 2) := dk_16 93 (dk_at dksX2_fact_1 9 rfl rfl)
theorem dX2_fact_35 : decode cX2_fact 35 = .ok (.invokevirtual 137, 3) := dk_182 0 137 (dk_at dksX2_fact_1 11 rfl rfl)
theorem dX2_fact_38 : decode cX2_fact 38 = .ok (.aload_n 0, 1) := dk_42 (dk_at dksX2_fact_1 14 rfl rfl)
theorem dX2_fact_39 : decode cX2_fact 39 = .ok (.dup, 1) := dk_89 (dk_at dksX2_fact_1 15 rfl rfl)
theorem dX2_fact_40 : decode cX2_fact 40 = .ok (.getfield 119, 3) := dk_180 0 119 (dk_at dksX2_fact_1 16 rfl rfl)
theorem dX2_fact_43 : decode cX2_fact 43 = .ok (.iconst 1, 1) := dk_4 (dk_at dksX2_fact_1 19 rfl rfl)
theorem dX2_fact_44 : decode cX2_fact 44 = .ok (.isub, 1) := dk_100 (dk_at dksX2_fact_1 20 rfl rfl)
theorem dX2_fact_45 : decode cX2_fact 45 = .ok (.putfield 119, 3) := dk_181 0 119 (dk_at dksX2_fact_1 21 rfl rfl)
theorem dX2_fact_48 : decode cX2_fact 48 = .ok (.aload_n 1, 1) := dk_43 (dk_at dksX2_fact_2 0 rfl rfl)
theorem dX2_fact_49 : decode cX2_fact 49 = .ok (.areturn, 1) := dk_176 (dk_at dksX2_fact_2 1 rfl rfl)
theorem dX2_fact_50 : decode cX2_fact 50 = .ok (.aload_n 0, 1) := dk_42 (dk_at dksX2_fact_2 2 rfl rfl)
theorem dX2_fact_51 : decode cX2_fact 51 = .ok (.ldc_w 322, 3) := dk_19 1 66 (dk_at dksX2_fact_2 3 rfl rfl)
theorem dX2_fact_54 : decode cX2_fact 54 = .ok (.invokevirtual 314, 3) := dk_182 1 58 (dk_at dksX2_fact_2 6 rfl rfl)
theorem dX2_fact_57 : decode cX2_fact 57 = .ok (.ifCond .eq 35, 3) := dk_153 0 35 (dk_at dksX2_fact_2 9 rfl rfl)
theorem dX2_fact_60 : decode cX2_fact 60 = .ok (.aload_n 0, 1) := dk_42 (dk_at dksX2_fact_2 12 rfl rfl)
theorem dX2_fact_61 : decode cX2_fact 61 = .ok (.aload_n 0, 1) := dk_42 (dk_at dksX2_fact_2 13 rfl rfl)
theorem dX2_fact_62 : decode cX2_fact 62 = .ok (.getfield 61, 3) := dk_180 0 61 (dk_at dksX2_fact_2 14 rfl rfl)
theorem dX2_fact_65 : decode cX2_fact 65 = .ok (.invokevirtual 264, 3) := dk_182 1 8 (dk_at dksX2_fact_2 17 rfl rfl)
theorem dX2_fact_68 : decode cX2_fact 68 = .ok (.new 324, 3) := dk_187 1 68 (dk_at dksX2_fact_2 20 rfl rfl)
theorem dX2_fact_71 : decode cX2_fact 71 = .ok (.dup, 1) := dk_89 (dk_at dksX2_fact_2 23 rfl rfl)
theorem dX2_fact_72 : decode cX2_fact 72 = .ok (.aload_n 0, 1) := dk_42 (dk_at dksX2_fact_3 0 rfl rfl)
theorem dX2_fact_73 : decode cX2_fact 73 = .ok (.invokevirtual 317, 3) := dk_182 1 61 (dk_at dksX2_fact_3 1 rfl rfl)
theorem dX2_fact_76 : decode cX2_fact 76 = .ok (.invokespecial 326, 3) := dk_183 1 70 (dk_at dksX2_fact_3 4 rfl rfl)
theorem dX2_fact_79 : decode cX2_fact 79 = .ok (.astore_n 1, 1) := dk_76 (dk_at dksX2_fact_3 7 rfl rfl)
theorem dX2_fact_80 : decode cX2_fact 80 = .ok (.aload_n 0, 1) := dk_42 (dk_at dksX2_fact_3 8 rfl rfl)
theorem dX2_fact_81 : decode cX2_fact 81 = .ok (.dup, 1) := dk_89 (dk_at dksX2_fact_3 9 rfl rfl)
theorem dX2_fact_82 : decode cX2_fact 82 = .ok (.getfield 119, 3) := dk_180 0 119 (dk_at dksX2_fact_3 10 rfl rfl)
theorem dX2_fact_85 : decode cX2_fact 85 = .ok (.iconst 1, 1) := dk_4 (dk_at dksX2_fact_3 13 rfl rfl)
theorem dX2_fact_86 : decode cX2_fact 86 = .ok (.isub, 1) := dk_100 (dk_at dksX2_fact_3 14 rfl rfl)
theorem dX2_fact_87 : decode cX2_fact 87 = .ok (.putfield 119, 3) := dk_181 0 119 (dk_at dksX2_fact_3 15 rfl rfl)
theorem dX2_fact_90 : decode cX2_fact 90 = .ok (.aload_n 1, 1) := dk_43 (dk_at dksX2_fact_3 18 rfl rfl)
theorem dX2_fact_91 : decode cX2_fact 91 = .ok (.areturn, 1) := dk_176 (dk_at dksX2_fact_3 19 rfl rfl)
theorem dX2_fact_92 : decode cX2_fact 92 = .ok (.aload_n 0, 1) := dk_42 (dk_at dksX2_fact_3 20 rfl rfl)
theorem dX2_fact_93 : decode cX2_fact 93 = .ok (.ldc_w 329, 3) := dk_19 1 73 (dk_at dksX2_fact_3 21 rfl rfl)
theorem dX2_fact_96 : decode cX2_fact 96 = .ok (.invokevirtual 314, 3) := dk_182 1 58 (dk_at dksX2_fact_4 0 rfl rfl)
theorem dX2_fact_99 : decode cX2_fact 99 = .ok (.ifCond .eq 11, 3) := dk_153 0 11 (dk_at dksX2_fact_4 3 rfl rfl)
theorem dX2_fact_102 : decode cX2_fact 102 = .ok (.new 331, 3) := dk_187 1 75 (dk_at dksX2_fact_4 6 rfl rfl)
theorem dX2_fact_105 : decode cX2_fact 105 = .ok (.dup, 1) := dk_89 (dk_at dksX2_fact_4 9 rfl rfl)
theorem dX2_fact_106 : decode cX2_fact 106 = .ok (.invokespecial 333, 3) := dk_183 1 77 (dk_at dksX2_fact_4 10 rfl rfl)
theorem dX2_fact_109 : decode cX2_fact 109 = .ok (.areturn, 1) := dk_176 (dk_at dksX2_fact_4 13 rfl rfl)
theorem dX2_fact_110 : decode cX2_fact 110 = .ok (.aload_n 0, 1) := dk_42 (dk_at dksX2_fact_4 14 rfl rfl)
theorem dX2_fact_111 : decode cX2_fact 111 = .ok (.invokevirtual 236, 3) := dk_182 0 236 (dk_at dksX2_fact_4 15 rfl rfl)
theorem dX2_fact_114 : decode cX2_fact 114 = .ok (.astore_n 1, 1) := dk_76 (dk_at dksX2_fact_4 18 rfl rfl)
theorem dX2_fact_115 : decode cX2_fact 115 = .ok (.aload_n 0, 1) := dk_42 (dk_at dksX2_fact_4 19 rfl rfl)
theorem dX2_fact_116 : decode cX2_fact 116 = .ok (.invokevirtual 43, 3) := dk_182 0 43 (dk_at dksX2_fact_4 20 rfl rfl)
theorem dX2_fact_119 : decode cX2_fact 119 = .ok (.istore_n 2, 1) := dk_61 (dk_at dksX2_fact_4 23 rfl rfl)
theorem dX2_fact_120 : decode cX2_fact 120 = .ok (.iload_n 2, 1) := dk_28 (dk_at dksX2_fact_5 0 rfl rfl)
theorem dX2_fact_121 : decode cX2_fact 121 = .ok (.bipush 60, 2) := dk_16 60 (dk_at dksX2_fact_5 1 rfl rfl)
theorem dX2_fact_123 : decode cX2_fact 123 = .ok (.if_icmp .eq 25, 3) := dk_159 0 25 (dk_at dksX2_fact_5 3 rfl rfl)
theorem dX2_fact_126 : decode cX2_fact 126 = .ok (.iload_n 2, 1) := dk_28 (dk_at dksX2_fact_5 6 rfl rfl)
theorem dX2_fact_127 : decode cX2_fact 127 = .ok (.bipush 62, 2) := dk_16 62 (dk_at dksX2_fact_5 7 rfl rfl)
theorem dX2_fact_129 : decode cX2_fact 129 = .ok (.if_icmp .eq 19, 3) := dk_159 0 19 (dk_at dksX2_fact_5 9 rfl rfl)
theorem dX2_fact_132 : decode cX2_fact 132 = .ok (.iload_n 2, 1) := dk_28 (dk_at dksX2_fact_5 12 rfl rfl)
theorem dX2_fact_133 : decode cX2_fact 133 = .ok (.bipush 61, 2) := dk_16 61 (dk_at dksX2_fact_5 13 rfl rfl)
theorem dX2_fact_135 : decode cX2_fact 135 = .ok (.if_icmp .eq 13, 3) := dk_159 0 13 (dk_at dksX2_fact_5 15 rfl rfl)
theorem dX2_fact_138 : decode cX2_fact 138 = .ok (.aload_n 0, 1) := dk_42 (dk_at dksX2_fact_5 18 rfl rfl)
theorem dX2_fact_139 : decode cX2_fact 139 = .ok (.iconst 1, 1) := dk_4 (dk_at dksX2_fact_5 19 rfl rfl)
theorem dX2_fact_140 : decode cX2_fact 140 = .ok (.aload_n 0, 1) := dk_42 (dk_at dksX2_fact_5 20 rfl rfl)
theorem dX2_fact_141 : decode cX2_fact 141 = .ok (.getfield 36, 3) := dk_180 0 36 (dk_at dksX2_fact_5 21 rfl rfl)
theorem dX2_fact_144 : decode cX2_fact 144 = .ok (.invokevirtual 47, 3) := dk_182 0 47 (dk_at dksX2_fact_6 0 rfl rfl)
theorem dX2_fact_147 : decode cX2_fact 147 = .ok (.athrow, 1) := dk_191 (dk_at dksX2_fact_6 3 rfl rfl)
theorem dX2_fact_148 : decode cX2_fact 148 = .ok (.aload_n 0, 1) := dk_42 (dk_at dksX2_fact_6 4 rfl rfl)
theorem dX2_fact_149 : decode cX2_fact 149 = .ok (.dup, 1) := dk_89 (dk_at dksX2_fact_6 5 rfl rfl)
theorem dX2_fact_150 : decode cX2_fact 150 = .ok (.getfield 36, 3) := dk_180 0 36 (dk_at dksX2_fact_6 6 rfl rfl)
theorem dX2_fact_153 : decode cX2_fact 153 = .ok (.iconst 1, 1) := dk_4 (dk_at dksX2_fact_6 9 rfl rfl)
theorem dX2_fact_154 : decode cX2_fact 154 = .ok (.iadd, 1) := dk_96 (dk_at dksX2_fact_6 10 rfl rfl)
theorem dX2_fact_155 : decode cX2_fact 155 = .ok (.putfield 36, 3) := dk_181 0 36 (dk_at dksX2_fact_6 11 rfl rfl)
theorem dX2_fact_158 : decode cX2_fact 158 = .ok (.new 334, 3) := dk_187 1 78 (dk_at dksX2_fact_6 14 rfl rfl)
theorem dX2_fact_161 : decode cX2_fact 161 = .ok (.dup, 1) := dk_89 (dk_at dksX2_fact_6 17 rfl rfl)
theorem dX2_fact_162 : decode cX2_fact 162 = .ok (.aload_n 1, 1) := dk_43 (dk_at dksX2_fact_6 18 rfl rfl)
theorem dX2_fact_163 : decode cX2_fact 163 = .ok (.iload_n 2, 1) := dk_28 (dk_at dksX2_fact_6 19 rfl rfl)
theorem dX2_fact_164 : decode cX2_fact 164 = .ok (.aload_n 0, 1) := dk_42 (dk_at dksX2_fact_6 20 rfl rfl)
theorem dX2_fact_165 : decode cX2_fact 165 = .ok (.invokevirtual 236, 3) := dk_182 0 236 (dk_at dksX2_fact_6 21 rfl rfl)
theorem dX2_fact_168 : decode cX2_fact 168 = .ok (.invokespecial 336, 3) := dk_183 1 80 (dk_at dksX2_fact_7 0 rfl rfl)
theorem dX2_fact_171 : decode cX2_fact 171 = .ok (.areturn, 1) := dk_176 (dk_at dksX2_fact_7 3 rfl rfl)
abbrev cX2_passes : ByteArray := prog_17_method_9_code
def yX2_passes : MethodName := ⟨RX2, "passes", "(Ljava/lang/String;)Z"⟩
def dkwX2_passes_1 : List UInt8 := [182, 0, 74, 153, 0, 5, 4, 172, 42, 28, 181, 0, 36, 3, 172]
abbrev dktX2_passes_1 : List UInt8 := dkwX2_passes_1 ++ []
def dkwX2_passes_0 : List UInt8 := [42, 180, 0, 36, 61, 42, 182, 0, 43, 184, 0, 51, 154, 0, 5, 3, 172, 42, 182, 0, 70, 43]
abbrev dktX2_passes_0 : List UInt8 := dkwX2_passes_0 ++ dktX2_passes_1
theorem dksX2_passes_0 : cX2_passes.data.toList.drop 0 = dktX2_passes_0 := by decide +kernel
theorem dksX2_passes_1 : cX2_passes.data.toList.drop 22 = dktX2_passes_1 := dk_seg dksX2_passes_0 22 rfl rfl
theorem dX2_passes_0 : decode cX2_passes 0 = .ok (.aload_n 0, 1) := dk_42 (dk_at dksX2_passes_0 0 rfl rfl)
theorem dX2_passes_1 : decode cX2_passes 1 = .ok (.getfield 36, 3) := dk_180 0 36 (dk_at dksX2_passes_0 1 rfl rfl)
theorem dX2_passes_4 : decode cX2_passes 4 = .ok (.istore_n 2, 1) := dk_61 (dk_at dksX2_passes_0 4 rfl rfl)
theorem dX2_passes_5 : decode cX2_passes 5 = .ok (.aload_n 0, 1) := dk_42 (dk_at dksX2_passes_0 5 rfl rfl)
theorem dX2_passes_6 : decode cX2_passes 6 = .ok (.invokevirtual 43, 3) := dk_182 0 43 (dk_at dksX2_passes_0 6 rfl rfl)
theorem dX2_passes_9 : decode cX2_passes 9 = .ok (.invokestatic 51, 3) := dk_184 0 51 (dk_at dksX2_passes_0 9 rfl rfl)
theorem dX2_passes_12 : decode cX2_passes 12 = .ok (.ifCond .ne 5, 3) := dk_154 0 5 (dk_at dksX2_passes_0 12 rfl rfl)
theorem dX2_passes_15 : decode cX2_passes 15 = .ok (.iconst 0, 1) := dk_3 (dk_at dksX2_passes_0 15 rfl rfl)
theorem dX2_passes_16 : decode cX2_passes 16 = .ok (.ireturn, 1) := dk_172 (dk_at dksX2_passes_0 16 rfl rfl)
theorem dX2_passes_17 : decode cX2_passes 17 = .ok (.aload_n 0, 1) := dk_42 (dk_at dksX2_passes_0 17 rfl rfl)
theorem dX2_passes_18 : decode cX2_passes 18 = .ok (.invokevirtual 70, 3) := dk_182 0 70 (dk_at dksX2_passes_0 18 rfl rfl)
theorem dX2_passes_21 : decode cX2_passes 21 = .ok (.aload_n 1, 1) := dk_43 (dk_at dksX2_passes_0 21 rfl rfl)
theorem dX2_passes_22 : decode cX2_passes 22 = .ok (.invokevirtual 74, 3) := dk_182 0 74 (dk_at dksX2_passes_1 0 rfl rfl)
theorem dX2_passes_25 : decode cX2_passes 25 = .ok (.ifCond .eq 5, 3) := dk_153 0 5 (dk_at dksX2_passes_1 3 rfl rfl)
theorem dX2_passes_28 : decode cX2_passes 28 = .ok (.iconst 1, 1) := dk_4 (dk_at dksX2_passes_1 6 rfl rfl)
theorem dX2_passes_29 : decode cX2_passes 29 = .ok (.ireturn, 1) := dk_172 (dk_at dksX2_passes_1 7 rfl rfl)
theorem dX2_passes_30 : decode cX2_passes 30 = .ok (.aload_n 0, 1) := dk_42 (dk_at dksX2_passes_1 8 rfl rfl)
theorem dX2_passes_31 : decode cX2_passes 31 = .ok (.iload_n 2, 1) := dk_28 (dk_at dksX2_passes_1 9 rfl rfl)
theorem dX2_passes_32 : decode cX2_passes 32 = .ok (.putfield 36, 3) := dk_181 0 36 (dk_at dksX2_passes_1 10 rfl rfl)
theorem dX2_passes_35 : decode cX2_passes 35 = .ok (.iconst 0, 1) := dk_3 (dk_at dksX2_passes_1 13 rfl rfl)
theorem dX2_passes_36 : decode cX2_passes 36 = .ok (.ireturn, 1) := dk_172 (dk_at dksX2_passes_1 14 rfl rfl)
abbrev cX2_question : ByteArray := prog_17_method_32_code
def yX2_question : MethodName := ⟨RX2, "question", "(I)LFirstSnuffer$Question;"⟩
def dkwX2_question_4 : List UInt8 := [42, 180, 0, 36, 182, 0, 47, 191, 45, 176]
abbrev dktX2_question_4 : List UInt8 := dkwX2_question_4 ++ []
def dkwX2_question_3 : List UInt8 := [187, 1, 91, 89, 28, 1, 42, 182, 0, 236, 183, 1, 93, 78, 42, 182, 0, 43, 2, 159, 0, 13, 42, 4]
abbrev dktX2_question_3 : List UInt8 := dkwX2_question_3 ++ dktX2_question_4
def dkwX2_question_2 : List UInt8 := [191, 28, 6, 162, 0, 19, 187, 1, 91, 89, 28, 42, 182, 0, 243, 1, 183, 1, 93, 167, 0, 16]
abbrev dktX2_question_2 : List UInt8 := dkwX2_question_2 ++ dktX2_question_3
def dkwX2_question_1 : List UInt8 := [182, 0, 70, 178, 1, 88, 184, 0, 82, 61, 28, 2, 160, 0, 13, 42, 4, 42, 180, 0, 61, 182, 0, 47]
abbrev dktX2_question_1 : List UInt8 := dkwX2_question_1 ++ dktX2_question_2
def dkwX2_question_0 : List UInt8 := [42, 27, 181, 0, 29, 42, 3, 181, 0, 36, 42, 3, 181, 0, 119, 42, 16, 123, 181, 0, 226, 42]
abbrev dktX2_question_0 : List UInt8 := dkwX2_question_0 ++ dktX2_question_1
theorem dksX2_question_0 : cX2_question.data.toList.drop 0 = dktX2_question_0 := by decide +kernel
theorem dksX2_question_1 : cX2_question.data.toList.drop 22 = dktX2_question_1 := dk_seg dksX2_question_0 22 rfl rfl
theorem dksX2_question_2 : cX2_question.data.toList.drop 46 = dktX2_question_2 := dk_seg dksX2_question_1 24 rfl rfl
theorem dksX2_question_3 : cX2_question.data.toList.drop 68 = dktX2_question_3 := dk_seg dksX2_question_2 22 rfl rfl
theorem dksX2_question_4 : cX2_question.data.toList.drop 92 = dktX2_question_4 := dk_seg dksX2_question_3 24 rfl rfl
theorem dX2_question_0 : decode cX2_question 0 = .ok (.aload_n 0, 1) := dk_42 (dk_at dksX2_question_0 0 rfl rfl)
theorem dX2_question_1 : decode cX2_question 1 = .ok (.iload_n 1, 1) := dk_27 (dk_at dksX2_question_0 1 rfl rfl)
theorem dX2_question_2 : decode cX2_question 2 = .ok (.putfield 29, 3) := dk_181 0 29 (dk_at dksX2_question_0 2 rfl rfl)
theorem dX2_question_5 : decode cX2_question 5 = .ok (.aload_n 0, 1) := dk_42 (dk_at dksX2_question_0 5 rfl rfl)
theorem dX2_question_6 : decode cX2_question 6 = .ok (.iconst 0, 1) := dk_3 (dk_at dksX2_question_0 6 rfl rfl)
theorem dX2_question_7 : decode cX2_question 7 = .ok (.putfield 36, 3) := dk_181 0 36 (dk_at dksX2_question_0 7 rfl rfl)
theorem dX2_question_10 : decode cX2_question 10 = .ok (.aload_n 0, 1) := dk_42 (dk_at dksX2_question_0 10 rfl rfl)
theorem dX2_question_11 : decode cX2_question 11 = .ok (.iconst 0, 1) := dk_3 (dk_at dksX2_question_0 11 rfl rfl)
theorem dX2_question_12 : decode cX2_question 12 = .ok (.putfield 119, 3) := dk_181 0 119 (dk_at dksX2_question_0 12 rfl rfl)
theorem dX2_question_15 : decode cX2_question 15 = .ok (.aload_n 0, 1) := dk_42 (dk_at dksX2_question_0 15 rfl rfl)
theorem dX2_question_16 : decode cX2_question 16 = .ok (.bipush 123, 2) := dk_16 123 (dk_at dksX2_question_0 16 rfl rfl)
theorem dX2_question_18 : decode cX2_question 18 = .ok (.putfield 226, 3) := dk_181 0 226 (dk_at dksX2_question_0 18 rfl rfl)
theorem dX2_question_21 : decode cX2_question 21 = .ok (.aload_n 0, 1) := dk_42 (dk_at dksX2_question_0 21 rfl rfl)
theorem dX2_question_22 : decode cX2_question 22 = .ok (.invokevirtual 70, 3) := dk_182 0 70 (dk_at dksX2_question_1 0 rfl rfl)
theorem dX2_question_25 : decode cX2_question 25 = .ok (.getstatic 344, 3) := dk_178 1 88 (dk_at dksX2_question_1 3 rfl rfl)
theorem dX2_question_28 : decode cX2_question 28 = .ok (.invokestatic 82, 3) := dk_184 0 82 (dk_at dksX2_question_1 6 rfl rfl)
theorem dX2_question_31 : decode cX2_question 31 = .ok (.istore_n 2, 1) := dk_61 (dk_at dksX2_question_1 9 rfl rfl)
theorem dX2_question_32 : decode cX2_question 32 = .ok (.iload_n 2, 1) := dk_28 (dk_at dksX2_question_1 10 rfl rfl)
theorem dX2_question_33 : decode cX2_question 33 = .ok (.iconst (-1), 1) := dk_2 (dk_at dksX2_question_1 11 rfl rfl)
theorem dX2_question_34 : decode cX2_question 34 = .ok (.if_icmp .ne 13, 3) := dk_160 0 13 (dk_at dksX2_question_1 12 rfl rfl)
theorem dX2_question_37 : decode cX2_question 37 = .ok (.aload_n 0, 1) := dk_42 (dk_at dksX2_question_1 15 rfl rfl)
theorem dX2_question_38 : decode cX2_question 38 = .ok (.iconst 1, 1) := dk_4 (dk_at dksX2_question_1 16 rfl rfl)
theorem dX2_question_39 : decode cX2_question 39 = .ok (.aload_n 0, 1) := dk_42 (dk_at dksX2_question_1 17 rfl rfl)
theorem dX2_question_40 : decode cX2_question 40 = .ok (.getfield 61, 3) := dk_180 0 61 (dk_at dksX2_question_1 18 rfl rfl)
theorem dX2_question_43 : decode cX2_question 43 = .ok (.invokevirtual 47, 3) := dk_182 0 47 (dk_at dksX2_question_1 21 rfl rfl)
theorem dX2_question_46 : decode cX2_question 46 = .ok (.athrow, 1) := dk_191 (dk_at dksX2_question_2 0 rfl rfl)
theorem dX2_question_47 : decode cX2_question 47 = .ok (.iload_n 2, 1) := dk_28 (dk_at dksX2_question_2 1 rfl rfl)
theorem dX2_question_48 : decode cX2_question 48 = .ok (.iconst 3, 1) := dk_6 (dk_at dksX2_question_2 2 rfl rfl)
theorem dX2_question_49 : decode cX2_question 49 = .ok (.if_icmp .ge 19, 3) := dk_162 0 19 (dk_at dksX2_question_2 3 rfl rfl)
theorem dX2_question_52 : decode cX2_question 52 = .ok (.new 347, 3) := dk_187 1 91 (dk_at dksX2_question_2 6 rfl rfl)
theorem dX2_question_55 : decode cX2_question 55 = .ok (.dup, 1) := dk_89 (dk_at dksX2_question_2 9 rfl rfl)
theorem dX2_question_56 : decode cX2_question 56 = .ok (.iload_n 2, 1) := dk_28 (dk_at dksX2_question_2 10 rfl rfl)
theorem dX2_question_57 : decode cX2_question 57 = .ok (.aload_n 0, 1) := dk_42 (dk_at dksX2_question_2 11 rfl rfl)
theorem dX2_question_58 : decode cX2_question 58 = .ok (.invokevirtual 243, 3) := dk_182 0 243 (dk_at dksX2_question_2 12 rfl rfl)
theorem dX2_question_61 : decode cX2_question 61 = .ok (.aconst_null, 1) := dk_1 (dk_at dksX2_question_2 15 rfl rfl)
theorem dX2_question_62 : decode cX2_question 62 = .ok (.invokespecial 349, 3) := dk_183 1 93 (dk_at dksX2_question_2 16 rfl rfl)
theorem dX2_question_65 : decode cX2_question 65 = .ok (.goto 16, 3) := dk_167 0 16 (dk_at dksX2_question_2 19 rfl rfl)
theorem dX2_question_68 : decode cX2_question 68 = .ok (.new 347, 3) := dk_187 1 91 (dk_at dksX2_question_3 0 rfl rfl)
theorem dX2_question_71 : decode cX2_question 71 = .ok (.dup, 1) := dk_89 (dk_at dksX2_question_3 3 rfl rfl)
theorem dX2_question_72 : decode cX2_question 72 = .ok (.iload_n 2, 1) := dk_28 (dk_at dksX2_question_3 4 rfl rfl)
theorem dX2_question_73 : decode cX2_question 73 = .ok (.aconst_null, 1) := dk_1 (dk_at dksX2_question_3 5 rfl rfl)
theorem dX2_question_74 : decode cX2_question 74 = .ok (.aload_n 0, 1) := dk_42 (dk_at dksX2_question_3 6 rfl rfl)
theorem dX2_question_75 : decode cX2_question 75 = .ok (.invokevirtual 236, 3) := dk_182 0 236 (dk_at dksX2_question_3 7 rfl rfl)
theorem dX2_question_78 : decode cX2_question 78 = .ok (.invokespecial 349, 3) := dk_183 1 93 (dk_at dksX2_question_3 10 rfl rfl)
theorem dX2_question_81 : decode cX2_question 81 = .ok (.astore_n 3, 1) := dk_78 (dk_at dksX2_question_3 13 rfl rfl)
theorem dX2_question_82 : decode cX2_question 82 = .ok (.aload_n 0, 1) := dk_42 (dk_at dksX2_question_3 14 rfl rfl)
theorem dX2_question_83 : decode cX2_question 83 = .ok (.invokevirtual 43, 3) := dk_182 0 43 (dk_at dksX2_question_3 15 rfl rfl)
theorem dX2_question_86 : decode cX2_question 86 = .ok (.iconst (-1), 1) := dk_2 (dk_at dksX2_question_3 18 rfl rfl)
theorem dX2_question_87 : decode cX2_question 87 = .ok (.if_icmp .eq 13, 3) := dk_159 0 13 (dk_at dksX2_question_3 19 rfl rfl)
theorem dX2_question_90 : decode cX2_question 90 = .ok (.aload_n 0, 1) := dk_42 (dk_at dksX2_question_3 22 rfl rfl)
theorem dX2_question_91 : decode cX2_question 91 = .ok (.iconst 1, 1) := dk_4 (dk_at dksX2_question_3 23 rfl rfl)
theorem dX2_question_92 : decode cX2_question 92 = .ok (.aload_n 0, 1) := dk_42 (dk_at dksX2_question_4 0 rfl rfl)
theorem dX2_question_93 : decode cX2_question 93 = .ok (.getfield 36, 3) := dk_180 0 36 (dk_at dksX2_question_4 1 rfl rfl)
theorem dX2_question_96 : decode cX2_question 96 = .ok (.invokevirtual 47, 3) := dk_182 0 47 (dk_at dksX2_question_4 4 rfl rfl)
theorem dX2_question_99 : decode cX2_question 99 = .ok (.athrow, 1) := dk_191 (dk_at dksX2_question_4 7 rfl rfl)
theorem dX2_question_100 : decode cX2_question 100 = .ok (.aload_n 3, 1) := dk_45 (dk_at dksX2_question_4 8 rfl rfl)
theorem dX2_question_101 : decode cX2_question 101 = .ok (.areturn, 1) := dk_176 (dk_at dksX2_question_4 9 rfl rfl)
theorem q172 : (Jvm.Cond.initialized "FirstSnuffer$Reader") ∈ lw_all := lw_g (lw_at lw_m1 6 rfl) rfl
theorem q251 : (Jvm.Cond.fieldLinkNest "FirstSnuffer$Reader" (122 : Nat) "FirstSnuffer$Household" "statements" "I" "FirstSnuffer") ∈ lw_tbl := lw_at lw_m1 85 rfl
theorem q253 : (Jvm.Cond.fieldLinkNest "FirstSnuffer$Reader" (223 : Nat) "FirstSnuffer$Household" "start" "I" "FirstSnuffer") ∈ lw_tbl := lw_at lw_m1 87 rfl
theorem q254 : (Jvm.Cond.fieldLinkNest "FirstSnuffer$Reader" (247 : Nat) "FirstSnuffer$Household" "draught" "I" "FirstSnuffer") ∈ lw_tbl := lw_at lw_m1 88 rfl
theorem q258 : (Jvm.Cond.fieldLinkNest "FirstSnuffer$Reader" (149 : Nat) "FirstSnuffer$Household" "halls" "Ljava/util/List;" "FirstSnuffer") ∈ lw_tbl := lw_at lw_m1 92 rfl
theorem q260 : (Jvm.Cond.fieldLinkNest "FirstSnuffer$Reader" (141 : Nat) "FirstSnuffer$Household" "doors" "Ljava/util/List;" "FirstSnuffer") ∈ lw_tbl := lw_at lw_m1 94 rfl
theorem q264 : (Jvm.Cond.fieldLinkNest "FirstSnuffer$Reader" (170 : Nat) "FirstSnuffer$Household" "things" "Ljava/util/List;" "FirstSnuffer") ∈ lw_tbl := lw_at lw_m1 98 rfl
theorem q267 : (Jvm.Cond.fieldLinkNest "FirstSnuffer$Reader" (187 : Nat) "FirstSnuffer$Household" "ties" "Ljava/util/List;" "FirstSnuffer") ∈ lw_tbl := lw_at lw_m1 101 rfl
theorem q269 : (Jvm.Cond.fieldLinkNest "FirstSnuffer$Reader" (233 : Nat) "FirstSnuffer$Household" "burns" "LFirstSnuffer$Value;" "FirstSnuffer") ∈ lw_tbl := lw_at lw_m1 103 rfl
theorem q271 : (Jvm.Cond.fieldLinkNest "FirstSnuffer$Reader" (240 : Nat) "FirstSnuffer$Household" "minds" "LFirstSnuffer$Test;" "FirstSnuffer") ∈ lw_tbl := lw_at lw_m1 105 rfl
theorem q292 : (Jvm.Cond.instantiable "FirstSnuffer$Reader" (8 : Nat)) ∈ lw_all := lw_g (lw_at lw_m1 126 rfl) rfl
theorem q294 : (Jvm.Cond.instanceMethod ({ cls := "FirstSnuffer$Reader", name := "<init>", desc := "(LFirstSnuffer;)V" } : Jvm.MethodName)) ∈ lw_all := lw_g (lw_at lw_m1 128 rfl) rfl
theorem q295 : (Jvm.Cond.code ({ cls := "FirstSnuffer$Reader", name := "<init>", desc := "(LFirstSnuffer;)V" } : Jvm.MethodName) prog_17_method_1_code (2 : Nat) (Option.none : Option Jvm.ClassFile.FieldType)) ∈ lw_all := lw_g (lw_at lw_m1 129 rfl) rfl
theorem q296 : (Jvm.Cond.methodLink "FirstSnuffer$Reader" (9 : Nat) ({ cls := "java/lang/Object", name := "<init>", desc := "()V" } : Jvm.MethodName)) ∈ lw_all := lw_g (lw_at lw_m1 130 rfl) rfl
theorem q297 : (Jvm.Cond.classLink "FirstSnuffer$Reader" (15 : Nat) "FirstSnuffer$Fault") ∈ lw_all := lw_g (lw_at lw_m1 131 rfl) rfl
theorem q336 : (Jvm.Cond.methodLink "FirstSnuffer$Reader" (17 : Nat) ({ cls := "FirstSnuffer$Fault", name := "<init>", desc := "()V" } : Jvm.MethodName)) ∈ lw_all := lw_g (lw_at lw_m1 170 rfl) rfl
theorem q348 : (Jvm.Cond.fieldLinkNest "FirstSnuffer$Reader" (22 : Nat) "FirstSnuffer$Fault" "kind" "I" "FirstSnuffer") ∈ lw_tbl := lw_at lw_m1 182 rfl
theorem q350 : (Jvm.Cond.fieldLinkNest "FirstSnuffer$Reader" (26 : Nat) "FirstSnuffer$Fault" "place" "I" "FirstSnuffer") ∈ lw_tbl := lw_at lw_m1 184 rfl
theorem q370 : (Jvm.Cond.fieldLink "FirstSnuffer$Reader" (18 : Nat) "FirstSnuffer$Reader" "fault" "LFirstSnuffer$Fault;") ∈ lw_all := lw_g (lw_at lw_m1 204 rfl) rfl
theorem q371 : (Jvm.Cond.fieldLink "FirstSnuffer$Reader" (29 : Nat) "FirstSnuffer$Reader" "size" "I") ∈ lw_all := lw_g (lw_at lw_m1 205 rfl) rfl
theorem q372 : (Jvm.Cond.fieldLink "FirstSnuffer$Reader" (36 : Nat) "FirstSnuffer$Reader" "at" "I") ∈ lw_all := lw_g (lw_at lw_m1 206 rfl) rfl
theorem q373 : (Jvm.Cond.fieldLink "FirstSnuffer$Reader" (61 : Nat) "FirstSnuffer$Reader" "from" "I") ∈ lw_all := lw_g (lw_at lw_m1 207 rfl) rfl
theorem q374 : (Jvm.Cond.fieldLink "FirstSnuffer$Reader" (119 : Nat) "FirstSnuffer$Reader" "open" "I") ∈ lw_all := lw_g (lw_at lw_m1 208 rfl) rfl
theorem q375 : (Jvm.Cond.fieldLink "FirstSnuffer$Reader" (226 : Nat) "FirstSnuffer$Reader" "context" "I") ∈ lw_all := lw_g (lw_at lw_m1 209 rfl) rfl
theorem q376 : (Jvm.Cond.fieldLink "FirstSnuffer$Reader" (103 : Nat) "FirstSnuffer$Reader" "to" "LFirstSnuffer$Household;") ∈ lw_all := lw_g (lw_at lw_m1 210 rfl) rfl
theorem q377 : (Jvm.Cond.fieldLink "FirstSnuffer$Reader" (3 : Nat) "FirstSnuffer$Reader" "this$0" "LFirstSnuffer;") ∈ lw_all := lw_g (lw_at lw_m1 211 rfl) rfl
theorem q378 : (Jvm.Cond.laysFinal "FirstSnuffer$Reader" "FirstSnuffer$Reader" "fault" "LFirstSnuffer$Fault;") ∈ lw_all := lw_g (lw_at lw_m1 212 rfl) rfl
theorem q379 : (Jvm.Cond.soleField "FirstSnuffer$Reader" "fault") ∈ lw_all := lw_g (lw_at lw_m1 213 rfl) rfl
theorem q380 : (Jvm.Cond.lays "FirstSnuffer$Reader" "FirstSnuffer$Reader" "size" "I") ∈ lw_all := lw_g (lw_at lw_m1 214 rfl) rfl
theorem q381 : (Jvm.Cond.soleField "FirstSnuffer$Reader" "size") ∈ lw_all := lw_g (lw_at lw_m1 215 rfl) rfl
theorem q382 : (Jvm.Cond.lays "FirstSnuffer$Reader" "FirstSnuffer$Reader" "at" "I") ∈ lw_all := lw_g (lw_at lw_m1 216 rfl) rfl
theorem q383 : (Jvm.Cond.soleField "FirstSnuffer$Reader" "at") ∈ lw_all := lw_g (lw_at lw_m1 217 rfl) rfl
theorem q384 : (Jvm.Cond.lays "FirstSnuffer$Reader" "FirstSnuffer$Reader" "from" "I") ∈ lw_all := lw_g (lw_at lw_m1 218 rfl) rfl
theorem q385 : (Jvm.Cond.soleField "FirstSnuffer$Reader" "from") ∈ lw_all := lw_g (lw_at lw_m1 219 rfl) rfl
theorem q386 : (Jvm.Cond.lays "FirstSnuffer$Reader" "FirstSnuffer$Reader" "open" "I") ∈ lw_all := lw_g (lw_at lw_m1 220 rfl) rfl
theorem q387 : (Jvm.Cond.soleField "FirstSnuffer$Reader" "open") ∈ lw_all := lw_g (lw_at lw_m1 221 rfl) rfl
theorem q388 : (Jvm.Cond.lays "FirstSnuffer$Reader" "FirstSnuffer$Reader" "context" "I") ∈ lw_all := lw_g (lw_at lw_m1 222 rfl) rfl
theorem q389 : (Jvm.Cond.soleField "FirstSnuffer$Reader" "context") ∈ lw_all := lw_g (lw_at lw_m1 223 rfl) rfl
theorem q390 : (Jvm.Cond.lays "FirstSnuffer$Reader" "FirstSnuffer$Reader" "to" "LFirstSnuffer$Household;") ∈ lw_all := lw_g (lw_at lw_m1 224 rfl) rfl
theorem q391 : (Jvm.Cond.soleField "FirstSnuffer$Reader" "to") ∈ lw_all := lw_g (lw_at lw_m1 225 rfl) rfl
theorem q392 : (Jvm.Cond.laysFinal "FirstSnuffer$Reader" "FirstSnuffer$Reader" "this$0" "LFirstSnuffer;") ∈ lw_all := lw_g (lw_at lw_m1 226 rfl) rfl
theorem q393 : (Jvm.Cond.soleField "FirstSnuffer$Reader" "this$0") ∈ lw_all := lw_g (lw_at lw_m1 227 rfl) rfl
theorem q394 : (Jvm.Cond.superclass "FirstSnuffer$Reader" "java/lang/Object") ∈ lw_all := lw_g (lw_at lw_m1 228 rfl) rfl
theorem q501 : (Jvm.Cond.fieldLinkNest "FirstSnuffer$Reader" (32 : Nat) "FirstSnuffer" "tape" "[B" "FirstSnuffer") ∈ lw_tbl := lw_at lw_m2 95 rfl
theorem q614 : (Jvm.Cond.instanceMethod ({ cls := "FirstSnuffer$Reader", name := "all", desc := "(I)LFirstSnuffer$Household;" } : Jvm.MethodName)) ∈ lw_all := lw_g (lw_at lw_m2 208 rfl) rfl
theorem q615 : (Jvm.Cond.selects "FirstSnuffer$Reader" ({ cls := "FirstSnuffer$Reader", name := "all", desc := "(I)LFirstSnuffer$Household;" } : Jvm.MethodName) ({ cls := "FirstSnuffer$Reader", name := "all", desc := "(I)LFirstSnuffer$Household;" } : Jvm.MethodName)) ∈ lw_all := lw_g (lw_at lw_m2 209 rfl) rfl
theorem q616 : (Jvm.Cond.code ({ cls := "FirstSnuffer$Reader", name := "all", desc := "(I)LFirstSnuffer$Household;" } : Jvm.MethodName) prog_17_method_16_code (3 : Nat) (Option.some (Jvm.ClassFile.FieldType.object "FirstSnuffer$Household"))) ∈ lw_all := lw_g (lw_at lw_m2 210 rfl) rfl
theorem q617 : (Jvm.Cond.classLink "FirstSnuffer$Reader" (108 : Nat) "FirstSnuffer$Household") ∈ lw_all := lw_g (lw_at lw_m2 211 rfl) rfl
theorem q618 : (Jvm.Cond.methodLinkNest "FirstSnuffer$Reader" (118 : Nat) ({ cls := "FirstSnuffer$Household", name := "<init>", desc := "()V" } : Jvm.MethodName) "FirstSnuffer") ∈ lw_tbl := lw_at lw_m2 212 rfl
theorem q619 : (Jvm.Cond.methodLink "FirstSnuffer$Reader" (43 : Nat) ({ cls := "FirstSnuffer$Reader", name := "here", desc := "()I" } : Jvm.MethodName)) ∈ lw_all := lw_g (lw_at lw_m2 213 rfl) rfl
theorem q620 : (Jvm.Cond.privateMethod ({ cls := "FirstSnuffer$Reader", name := "here", desc := "()I" } : Jvm.MethodName)) ∈ lw_tbl := lw_at lw_m2 214 rfl
theorem q621 : (Jvm.Cond.instanceMethod ({ cls := "FirstSnuffer$Reader", name := "here", desc := "()I" } : Jvm.MethodName)) ∈ lw_all := lw_g (lw_at lw_m2 215 rfl) rfl
theorem q622 : (Jvm.Cond.code ({ cls := "FirstSnuffer$Reader", name := "here", desc := "()I" } : Jvm.MethodName) prog_17_method_4_code (1 : Nat) (Option.some Jvm.ClassFile.FieldType.int)) ∈ lw_all := lw_g (lw_at lw_m2 216 rfl) rfl
theorem q623 : (Jvm.Cond.methodLink "FirstSnuffer$Reader" (39 : Nat) ({ cls := "FirstSnuffer$Reader", name := "byteAt", desc := "(I)I" } : Jvm.MethodName)) ∈ lw_all := lw_g (lw_at lw_m2 217 rfl) rfl
theorem q624 : (Jvm.Cond.privateMethod ({ cls := "FirstSnuffer$Reader", name := "byteAt", desc := "(I)I" } : Jvm.MethodName)) ∈ lw_tbl := lw_at lw_m2 218 rfl
theorem q625 : (Jvm.Cond.instanceMethod ({ cls := "FirstSnuffer$Reader", name := "byteAt", desc := "(I)I" } : Jvm.MethodName)) ∈ lw_all := lw_g (lw_at lw_m2 219 rfl) rfl
theorem q626 : (Jvm.Cond.code ({ cls := "FirstSnuffer$Reader", name := "byteAt", desc := "(I)I" } : Jvm.MethodName) prog_17_method_3_code (2 : Nat) (Option.some Jvm.ClassFile.FieldType.int)) ∈ lw_all := lw_g (lw_at lw_m2 220 rfl) rfl
theorem q627 : (Jvm.Cond.methodLink "FirstSnuffer$Reader" (125 : Nat) ({ cls := "FirstSnuffer$Reader", name := "most", desc := "(ZI)V" } : Jvm.MethodName)) ∈ lw_all := lw_g (lw_at lw_m2 221 rfl) rfl
theorem q628 : (Jvm.Cond.privateMethod ({ cls := "FirstSnuffer$Reader", name := "most", desc := "(ZI)V" } : Jvm.MethodName)) ∈ lw_tbl := lw_at lw_m2 222 rfl
theorem q629 : (Jvm.Cond.instanceMethod ({ cls := "FirstSnuffer$Reader", name := "most", desc := "(ZI)V" } : Jvm.MethodName)) ∈ lw_all := lw_g (lw_at lw_m2 223 rfl) rfl
theorem q630 : (Jvm.Cond.code ({ cls := "FirstSnuffer$Reader", name := "most", desc := "(ZI)V" } : Jvm.MethodName) prog_17_method_15_code (3 : Nat) (Option.none : Option Jvm.ClassFile.FieldType)) ∈ lw_all := lw_g (lw_at lw_m2 224 rfl) rfl
theorem q631 : (Jvm.Cond.methodLink "FirstSnuffer$Reader" (47 : Nat) ({ cls := "FirstSnuffer$Reader", name := "wrong", desc := "(II)LFirstSnuffer$Fault;" } : Jvm.MethodName)) ∈ lw_all := lw_g (lw_at lw_m2 225 rfl) rfl
theorem q632 : (Jvm.Cond.privateMethod ({ cls := "FirstSnuffer$Reader", name := "wrong", desc := "(II)LFirstSnuffer$Fault;" } : Jvm.MethodName)) ∈ lw_tbl := lw_at lw_m2 226 rfl
theorem q633 : (Jvm.Cond.instanceMethod ({ cls := "FirstSnuffer$Reader", name := "wrong", desc := "(II)LFirstSnuffer$Fault;" } : Jvm.MethodName)) ∈ lw_all := lw_g (lw_at lw_m2 227 rfl) rfl
theorem q634 : (Jvm.Cond.code ({ cls := "FirstSnuffer$Reader", name := "wrong", desc := "(II)LFirstSnuffer$Fault;" } : Jvm.MethodName) prog_17_method_2_code (3 : Nat) (Option.some (Jvm.ClassFile.FieldType.object "FirstSnuffer$Fault"))) ∈ lw_all := lw_g (lw_at lw_m2 228 rfl) rfl
theorem q635 : (Jvm.Cond.methodLink "FirstSnuffer$Reader" (70 : Nat) ({ cls := "FirstSnuffer$Reader", name := "word", desc := "()Ljava/lang/String;" } : Jvm.MethodName)) ∈ lw_all := lw_g (lw_at lw_m2 229 rfl) rfl
theorem q636 : (Jvm.Cond.privateMethod ({ cls := "FirstSnuffer$Reader", name := "word", desc := "()Ljava/lang/String;" } : Jvm.MethodName)) ∈ lw_tbl := lw_at lw_m2 230 rfl
theorem q637 : (Jvm.Cond.instanceMethod ({ cls := "FirstSnuffer$Reader", name := "word", desc := "()Ljava/lang/String;" } : Jvm.MethodName)) ∈ lw_all := lw_g (lw_at lw_m2 231 rfl) rfl
theorem q638 : (Jvm.Cond.code ({ cls := "FirstSnuffer$Reader", name := "word", desc := "()Ljava/lang/String;" } : Jvm.MethodName) prog_17_method_7_code (3 : Nat) (Option.some (Jvm.ClassFile.FieldType.object "java/lang/String"))) ∈ lw_all := lw_g (lw_at lw_m2 232 rfl) rfl
theorem q639 : (Jvm.Cond.methodLinkNest "FirstSnuffer$Reader" (51 : Nat) ({ cls := "FirstSnuffer", name := "isLetter", desc := "(I)Z" } : Jvm.MethodName) "FirstSnuffer") ∈ lw_tbl := lw_at lw_m2 233 rfl
theorem q642 : (Jvm.Cond.methodLink "FirstSnuffer$Reader" (58 : Nat) ({ cls := "FirstSnuffer$Reader", name := "parted", desc := "()V" } : Jvm.MethodName)) ∈ lw_all := lw_g (lw_at lw_m2 236 rfl) rfl
theorem q643 : (Jvm.Cond.privateMethod ({ cls := "FirstSnuffer$Reader", name := "parted", desc := "()V" } : Jvm.MethodName)) ∈ lw_tbl := lw_at lw_m2 237 rfl
theorem q644 : (Jvm.Cond.instanceMethod ({ cls := "FirstSnuffer$Reader", name := "parted", desc := "()V" } : Jvm.MethodName)) ∈ lw_all := lw_g (lw_at lw_m2 238 rfl) rfl
theorem q645 : (Jvm.Cond.code ({ cls := "FirstSnuffer$Reader", name := "parted", desc := "()V" } : Jvm.MethodName) prog_17_method_6_code (1 : Nat) (Option.none : Option Jvm.ClassFile.FieldType)) ∈ lw_all := lw_g (lw_at lw_m2 239 rfl) rfl
theorem q646 : (Jvm.Cond.methodLinkNest "FirstSnuffer$Reader" (55 : Nat) ({ cls := "FirstSnuffer", name := "isDigit", desc := "(I)Z" } : Jvm.MethodName) "FirstSnuffer") ∈ lw_tbl := lw_at lw_m3 0 rfl
theorem q649 : (Jvm.Cond.methodLink "FirstSnuffer$Reader" (64 : Nat) ({ cls := "java/lang/String", name := "valueOf", desc := "([C)Ljava/lang/String;" } : Jvm.MethodName)) ∈ lw_all := lw_g (lw_at lw_m3 3 rfl) rfl
theorem q727 : (Jvm.Cond.methodLink "FirstSnuffer$Reader" (129 : Nat) ({ cls := "FirstSnuffer$Reader", name := "isTold", desc := "(Ljava/lang/String;I)Z" } : Jvm.MethodName)) ∈ lw_all := lw_g (lw_at lw_m3 81 rfl) rfl
theorem q728 : (Jvm.Cond.privateMethod ({ cls := "FirstSnuffer$Reader", name := "isTold", desc := "(Ljava/lang/String;I)Z" } : Jvm.MethodName)) ∈ lw_tbl := lw_at lw_m3 82 rfl
theorem q729 : (Jvm.Cond.instanceMethod ({ cls := "FirstSnuffer$Reader", name := "isTold", desc := "(Ljava/lang/String;I)Z" } : Jvm.MethodName)) ∈ lw_all := lw_g (lw_at lw_m3 83 rfl) rfl
theorem q730 : (Jvm.Cond.code ({ cls := "FirstSnuffer$Reader", name := "isTold", desc := "(Ljava/lang/String;I)Z" } : Jvm.MethodName) prog_17_method_20_code (5 : Nat) (Option.some Jvm.ClassFile.FieldType.boolean)) ∈ lw_all := lw_g (lw_at lw_m3 84 rfl) rfl
theorem q731 : (Jvm.Cond.methodLink "FirstSnuffer$Reader" (199 : Nat) ({ cls := "java/lang/String", name := "hashCode", desc := "()I" } : Jvm.MethodName)) ∈ lw_all := lw_g (lw_at lw_m3 85 rfl) rfl
theorem q784 : (Jvm.Cond.stringRef "FirstSnuffer$Reader" (202 : Nat) "hall") ∈ lw_tbl := lw_at lw_m3 138 rfl
theorem q785 : (Jvm.Cond.methodLink "FirstSnuffer$Reader" (74 : Nat) ({ cls := "java/lang/String", name := "equals", desc := "(Ljava/lang/Object;)Z" } : Jvm.MethodName)) ∈ lw_all := lw_g (lw_at lw_m3 139 rfl) rfl
theorem q792 : (Jvm.Cond.stringRef "FirstSnuffer$Reader" (204 : Nat) "door") ∈ lw_tbl := lw_at lw_m3 146 rfl
theorem q793 : (Jvm.Cond.stringRef "FirstSnuffer$Reader" (206 : Nat) "thing") ∈ lw_tbl := lw_at lw_m3 147 rfl
theorem q794 : (Jvm.Cond.stringRef "FirstSnuffer$Reader" (208 : Nat) "tie") ∈ lw_tbl := lw_at lw_m3 148 rfl
theorem q795 : (Jvm.Cond.stringRef "FirstSnuffer$Reader" (210 : Nat) "starts") ∈ lw_tbl := lw_at lw_m3 149 rfl
theorem q796 : (Jvm.Cond.interfaceEntry "FirstSnuffer$Reader" (145 : Nat)) ∈ lw_tbl := lw_at lw_m3 150 rfl
theorem q797 : (Jvm.Cond.methodLink "FirstSnuffer$Reader" (145 : Nat) ({ cls := "java/util/List", name := "size", desc := "()I" } : Jvm.MethodName)) ∈ lw_all := lw_g (lw_at lw_m3 151 rfl) rfl
theorem q798 : (Jvm.Cond.classLink "FirstSnuffer$Reader" (114 : Nat) "FirstSnuffer$Named") ∈ lw_all := lw_g (lw_at lw_m3 152 rfl) rfl
theorem q800 : (Jvm.Cond.methodLink "FirstSnuffer$Reader" (173 : Nat) ({ cls := "FirstSnuffer$Reader", name := "fresh", desc := "()Ljava/lang/String;" } : Jvm.MethodName)) ∈ lw_all := lw_g (lw_at lw_m3 154 rfl) rfl
theorem q801 : (Jvm.Cond.privateMethod ({ cls := "FirstSnuffer$Reader", name := "fresh", desc := "()Ljava/lang/String;" } : Jvm.MethodName)) ∈ lw_tbl := lw_at lw_m3 155 rfl
theorem q802 : (Jvm.Cond.instanceMethod ({ cls := "FirstSnuffer$Reader", name := "fresh", desc := "()Ljava/lang/String;" } : Jvm.MethodName)) ∈ lw_all := lw_g (lw_at lw_m3 156 rfl) rfl
theorem q803 : (Jvm.Cond.code ({ cls := "FirstSnuffer$Reader", name := "fresh", desc := "()Ljava/lang/String;" } : Jvm.MethodName) prog_17_method_13_code (2 : Nat) (Option.some (Jvm.ClassFile.FieldType.object "java/lang/String"))) ∈ lw_all := lw_g (lw_at lw_m3 157 rfl) rfl
theorem q804 : (Jvm.Cond.methodLink "FirstSnuffer$Reader" (100 : Nat) ({ cls := "FirstSnuffer$Reader", name := "name", desc := "()Ljava/lang/String;" } : Jvm.MethodName)) ∈ lw_all := lw_g (lw_at lw_m3 158 rfl) rfl
theorem q805 : (Jvm.Cond.privateMethod ({ cls := "FirstSnuffer$Reader", name := "name", desc := "()Ljava/lang/String;" } : Jvm.MethodName)) ∈ lw_tbl := lw_at lw_m3 159 rfl
theorem q806 : (Jvm.Cond.instanceMethod ({ cls := "FirstSnuffer$Reader", name := "name", desc := "()Ljava/lang/String;" } : Jvm.MethodName)) ∈ lw_all := lw_g (lw_at lw_m3 160 rfl) rfl
theorem q807 : (Jvm.Cond.code ({ cls := "FirstSnuffer$Reader", name := "name", desc := "()Ljava/lang/String;" } : Jvm.MethodName) prog_17_method_10_code (2 : Nat) (Option.some (Jvm.ClassFile.FieldType.object "java/lang/String"))) ∈ lw_all := lw_g (lw_at lw_m3 161 rfl) rfl
theorem q808 : (Jvm.Cond.fieldLinkNest "FirstSnuffer$Reader" (78 : Nat) "FirstSnuffer" "OWN" "[Ljava/lang/String;" "FirstSnuffer") ∈ lw_tbl := lw_at lw_m3 162 rfl
theorem q810 : (Jvm.Cond.methodLinkNest "FirstSnuffer$Reader" (82 : Nat) ({ cls := "FirstSnuffer", name := "find", desc := "(Ljava/lang/String;[Ljava/lang/String;)I" } : Jvm.MethodName) "FirstSnuffer") ∈ lw_tbl := lw_at lw_m3 164 rfl
theorem q814 : (Jvm.Cond.methodLink "FirstSnuffer$Reader" (86 : Nat) ({ cls := "java/lang/String", name := "length", desc := "()I" } : Jvm.MethodName)) ∈ lw_all := lw_g (lw_at lw_m3 168 rfl) rfl
theorem q822 : (Jvm.Cond.methodLink "FirstSnuffer$Reader" (107 : Nat) ({ cls := "FirstSnuffer$Household", name := "isNamed", desc := "(Ljava/lang/String;)Z" } : Jvm.MethodName)) ∈ lw_all := lw_g (lw_at lw_m3 176 rfl) rfl
theorem q835 : (Jvm.Cond.methodLink "FirstSnuffer$Reader" (212 : Nat) ({ cls := "FirstSnuffer$Named", name := "<init>", desc := "(Ljava/lang/String;)V" } : Jvm.MethodName)) ∈ lw_all := lw_g (lw_at lw_m3 189 rfl) rfl
theorem q843 : (Jvm.Cond.interfaceEntry "FirstSnuffer$Reader" (167 : Nat)) ∈ lw_tbl := lw_at lw_m3 197 rfl
theorem q844 : (Jvm.Cond.methodLink "FirstSnuffer$Reader" (167 : Nat) ({ cls := "java/util/List", name := "add", desc := "(Ljava/lang/Object;)Z" } : Jvm.MethodName)) ∈ lw_all := lw_g (lw_at lw_m3 198 rfl) rfl
theorem q898 : (Jvm.Cond.selects "FirstSnuffer$Reader" ({ cls := "java/lang/Object", name := "getClass", desc := "()Ljava/lang/Class;" } : Jvm.MethodName) ({ cls := "java/lang/Object", name := "getClass", desc := "()Ljava/lang/Class;" } : Jvm.MethodName)) ∈ lw_all := lw_g (lw_at lw_m4 12 rfl) rfl
theorem q918 : (Jvm.Cond.methodLink "FirstSnuffer$Reader" (214 : Nat) ({ cls := "FirstSnuffer$Reader", name := "readsDoor", desc := "(I)V" } : Jvm.MethodName)) ∈ lw_all := lw_g (lw_at lw_m4 32 rfl) rfl
theorem q919 : (Jvm.Cond.privateMethod ({ cls := "FirstSnuffer$Reader", name := "readsDoor", desc := "(I)V" } : Jvm.MethodName)) ∈ lw_tbl := lw_at lw_m4 33 rfl
theorem q920 : (Jvm.Cond.instanceMethod ({ cls := "FirstSnuffer$Reader", name := "readsDoor", desc := "(I)V" } : Jvm.MethodName)) ∈ lw_all := lw_g (lw_at lw_m4 34 rfl) rfl
theorem q921 : (Jvm.Cond.code ({ cls := "FirstSnuffer$Reader", name := "readsDoor", desc := "(I)V" } : Jvm.MethodName) prog_17_method_17_code (4 : Nat) (Option.none : Option Jvm.ClassFile.FieldType)) ∈ lw_all := lw_g (lw_at lw_m4 35 rfl) rfl
theorem q922 : (Jvm.Cond.methodLink "FirstSnuffer$Reader" (152 : Nat) ({ cls := "FirstSnuffer$Reader", name := "known", desc := "(Ljava/util/List;I)I" } : Jvm.MethodName)) ∈ lw_all := lw_g (lw_at lw_m4 36 rfl) rfl
theorem q923 : (Jvm.Cond.privateMethod ({ cls := "FirstSnuffer$Reader", name := "known", desc := "(Ljava/util/List;I)I" } : Jvm.MethodName)) ∈ lw_tbl := lw_at lw_m4 37 rfl
theorem q924 : (Jvm.Cond.instanceMethod ({ cls := "FirstSnuffer$Reader", name := "known", desc := "(Ljava/util/List;I)I" } : Jvm.MethodName)) ∈ lw_all := lw_g (lw_at lw_m4 38 rfl) rfl
theorem q925 : (Jvm.Cond.code ({ cls := "FirstSnuffer$Reader", name := "known", desc := "(Ljava/util/List;I)I" } : Jvm.MethodName) prog_17_method_14_code (4 : Nat) (Option.some Jvm.ClassFile.FieldType.int)) ∈ lw_all := lw_g (lw_at lw_m4 39 rfl) rfl
theorem q926 : (Jvm.Cond.methodLink "FirstSnuffer$Reader" (113 : Nat) ({ cls := "FirstSnuffer$Named", name := "find", desc := "(Ljava/util/List;Ljava/lang/String;)I" } : Jvm.MethodName)) ∈ lw_all := lw_g (lw_at lw_m4 40 rfl) rfl
theorem q927 : (Jvm.Cond.stringRef "FirstSnuffer$Reader" (156 : Nat) "to") ∈ lw_tbl := lw_at lw_m4 41 rfl
theorem q928 : (Jvm.Cond.methodLink "FirstSnuffer$Reader" (93 : Nat) ({ cls := "FirstSnuffer$Reader", name := "word", desc := "(Ljava/lang/String;)V" } : Jvm.MethodName)) ∈ lw_all := lw_g (lw_at lw_m4 42 rfl) rfl
theorem q929 : (Jvm.Cond.privateMethod ({ cls := "FirstSnuffer$Reader", name := "word", desc := "(Ljava/lang/String;)V" } : Jvm.MethodName)) ∈ lw_tbl := lw_at lw_m4 43 rfl
theorem q930 : (Jvm.Cond.instanceMethod ({ cls := "FirstSnuffer$Reader", name := "word", desc := "(Ljava/lang/String;)V" } : Jvm.MethodName)) ∈ lw_all := lw_g (lw_at lw_m4 44 rfl) rfl
theorem q931 : (Jvm.Cond.code ({ cls := "FirstSnuffer$Reader", name := "word", desc := "(Ljava/lang/String;)V" } : Jvm.MethodName) prog_17_method_8_code (2 : Nat) (Option.none : Option Jvm.ClassFile.FieldType)) ∈ lw_all := lw_g (lw_at lw_m4 45 rfl) rfl
theorem q932 : (Jvm.Cond.classLink "FirstSnuffer$Reader" (157 : Nat) "FirstSnuffer$Door") ∈ lw_all := lw_g (lw_at lw_m4 46 rfl) rfl
theorem q934 : (Jvm.Cond.stringRef "FirstSnuffer$Reader" (159 : Nat) "steps") ∈ lw_tbl := lw_at lw_m4 48 rfl
theorem q935 : (Jvm.Cond.methodLink "FirstSnuffer$Reader" (161 : Nat) ({ cls := "FirstSnuffer$Reader", name := "number", desc := "(Ljava/lang/String;II)I" } : Jvm.MethodName)) ∈ lw_all := lw_g (lw_at lw_m4 49 rfl) rfl
theorem q936 : (Jvm.Cond.privateMethod ({ cls := "FirstSnuffer$Reader", name := "number", desc := "(Ljava/lang/String;II)I" } : Jvm.MethodName)) ∈ lw_tbl := lw_at lw_m4 50 rfl
theorem q937 : (Jvm.Cond.instanceMethod ({ cls := "FirstSnuffer$Reader", name := "number", desc := "(Ljava/lang/String;II)I" } : Jvm.MethodName)) ∈ lw_all := lw_g (lw_at lw_m4 51 rfl) rfl
theorem q938 : (Jvm.Cond.code ({ cls := "FirstSnuffer$Reader", name := "number", desc := "(Ljava/lang/String;II)I" } : Jvm.MethodName) prog_17_method_12_code (4 : Nat) (Option.some Jvm.ClassFile.FieldType.int)) ∈ lw_all := lw_g (lw_at lw_m4 52 rfl) rfl
theorem q939 : (Jvm.Cond.methodLink "FirstSnuffer$Reader" (96 : Nat) ({ cls := "FirstSnuffer$Reader", name := "number", desc := "(II)I" } : Jvm.MethodName)) ∈ lw_all := lw_g (lw_at lw_m4 53 rfl) rfl
theorem q940 : (Jvm.Cond.privateMethod ({ cls := "FirstSnuffer$Reader", name := "number", desc := "(II)I" } : Jvm.MethodName)) ∈ lw_tbl := lw_at lw_m4 54 rfl
theorem q941 : (Jvm.Cond.instanceMethod ({ cls := "FirstSnuffer$Reader", name := "number", desc := "(II)I" } : Jvm.MethodName)) ∈ lw_all := lw_g (lw_at lw_m4 55 rfl) rfl
theorem q942 : (Jvm.Cond.code ({ cls := "FirstSnuffer$Reader", name := "number", desc := "(II)I" } : Jvm.MethodName) prog_17_method_11_code (4 : Nat) (Option.some Jvm.ClassFile.FieldType.int)) ∈ lw_all := lw_g (lw_at lw_m4 56 rfl) rfl
theorem q943 : (Jvm.Cond.methodLinkNest "FirstSnuffer$Reader" (89 : Nat) ({ cls := "FirstSnuffer", name := "is", desc := "(III)Z" } : Jvm.MethodName) "FirstSnuffer") ∈ lw_tbl := lw_at lw_m4 57 rfl
theorem q946 : (Jvm.Cond.methodLink "FirstSnuffer$Reader" (164 : Nat) ({ cls := "FirstSnuffer$Door", name := "<init>", desc := "(III)V" } : Jvm.MethodName)) ∈ lw_all := lw_g (lw_at lw_m4 60 rfl) rfl
theorem q963 : (Jvm.Cond.methodLink "FirstSnuffer$Reader" (217 : Nat) ({ cls := "FirstSnuffer$Reader", name := "readsThing", desc := "(I)V" } : Jvm.MethodName)) ∈ lw_all := lw_g (lw_at lw_m4 77 rfl) rfl
theorem q964 : (Jvm.Cond.privateMethod ({ cls := "FirstSnuffer$Reader", name := "readsThing", desc := "(I)V" } : Jvm.MethodName)) ∈ lw_tbl := lw_at lw_m4 78 rfl
theorem q965 : (Jvm.Cond.instanceMethod ({ cls := "FirstSnuffer$Reader", name := "readsThing", desc := "(I)V" } : Jvm.MethodName)) ∈ lw_all := lw_g (lw_at lw_m4 79 rfl) rfl
theorem q966 : (Jvm.Cond.code ({ cls := "FirstSnuffer$Reader", name := "readsThing", desc := "(I)V" } : Jvm.MethodName) prog_17_method_18_code (5 : Nat) (Option.none : Option Jvm.ClassFile.FieldType)) ∈ lw_all := lw_g (lw_at lw_m4 80 rfl) rfl
theorem q967 : (Jvm.Cond.stringRef "FirstSnuffer$Reader" (176 : Nat) "in") ∈ lw_tbl := lw_at lw_m4 81 rfl
theorem q968 : (Jvm.Cond.stringRef "FirstSnuffer$Reader" (178 : Nat) "burns") ∈ lw_tbl := lw_at lw_m4 82 rfl
theorem q969 : (Jvm.Cond.classLink "FirstSnuffer$Reader" (180 : Nat) "FirstSnuffer$Burning") ∈ lw_all := lw_g (lw_at lw_m4 83 rfl) rfl
theorem q971 : (Jvm.Cond.stringRef "FirstSnuffer$Reader" (182 : Nat) "heat") ∈ lw_tbl := lw_at lw_m4 85 rfl
theorem q972 : (Jvm.Cond.methodLink "FirstSnuffer$Reader" (184 : Nat) ({ cls := "FirstSnuffer$Burning", name := "<init>", desc := "(Ljava/lang/String;III)V" } : Jvm.MethodName)) ∈ lw_all := lw_g (lw_at lw_m4 86 rfl) rfl
theorem q992 : (Jvm.Cond.methodLink "FirstSnuffer$Reader" (220 : Nat) ({ cls := "FirstSnuffer$Reader", name := "readsTie", desc := "(I)V" } : Jvm.MethodName)) ∈ lw_all := lw_g (lw_at lw_m4 106 rfl) rfl
theorem q993 : (Jvm.Cond.privateMethod ({ cls := "FirstSnuffer$Reader", name := "readsTie", desc := "(I)V" } : Jvm.MethodName)) ∈ lw_tbl := lw_at lw_m4 107 rfl
theorem q994 : (Jvm.Cond.instanceMethod ({ cls := "FirstSnuffer$Reader", name := "readsTie", desc := "(I)V" } : Jvm.MethodName)) ∈ lw_all := lw_g (lw_at lw_m4 108 rfl) rfl
theorem q995 : (Jvm.Cond.code ({ cls := "FirstSnuffer$Reader", name := "readsTie", desc := "(I)V" } : Jvm.MethodName) prog_17_method_19_code (4 : Nat) (Option.none : Option Jvm.ClassFile.FieldType)) ∈ lw_all := lw_g (lw_at lw_m4 109 rfl) rfl
theorem q996 : (Jvm.Cond.methodLink "FirstSnuffer$Reader" (190 : Nat) ({ cls := "FirstSnuffer$Household", name := "isTied", desc := "(II)Z" } : Jvm.MethodName)) ∈ lw_all := lw_g (lw_at lw_m4 110 rfl) rfl
theorem q1005 : (Jvm.Cond.classLink "FirstSnuffer$Reader" (194 : Nat) "FirstSnuffer$Tie") ∈ lw_all := lw_g (lw_at lw_m4 119 rfl) rfl
theorem q1007 : (Jvm.Cond.methodLink "FirstSnuffer$Reader" (196 : Nat) ({ cls := "FirstSnuffer$Tie", name := "<init>", desc := "(II)V" } : Jvm.MethodName)) ∈ lw_all := lw_g (lw_at lw_m4 121 rfl) rfl
theorem q1024 : (Jvm.Cond.methodLink "FirstSnuffer$Reader" (133 : Nat) ({ cls := "FirstSnuffer$Reader", name := "more", desc := "(Ljava/lang/String;I)V" } : Jvm.MethodName)) ∈ lw_all := lw_g (lw_at lw_m4 138 rfl) rfl
theorem q1025 : (Jvm.Cond.privateMethod ({ cls := "FirstSnuffer$Reader", name := "more", desc := "(Ljava/lang/String;I)V" } : Jvm.MethodName)) ∈ lw_tbl := lw_at lw_m4 139 rfl
theorem q1026 : (Jvm.Cond.instanceMethod ({ cls := "FirstSnuffer$Reader", name := "more", desc := "(Ljava/lang/String;I)V" } : Jvm.MethodName)) ∈ lw_all := lw_g (lw_at lw_m4 140 rfl) rfl
theorem q1027 : (Jvm.Cond.code ({ cls := "FirstSnuffer$Reader", name := "more", desc := "(Ljava/lang/String;I)V" } : Jvm.MethodName) prog_17_method_21_code (5 : Nat) (Option.none : Option Jvm.ClassFile.FieldType)) ∈ lw_all := lw_g (lw_at lw_m4 141 rfl) rfl
theorem q1028 : (Jvm.Cond.stringRef "FirstSnuffer$Reader" (229 : Nat) "minds") ∈ lw_tbl := lw_at lw_m4 142 rfl
theorem q1029 : (Jvm.Cond.stringRef "FirstSnuffer$Reader" (231 : Nat) "draught") ∈ lw_tbl := lw_at lw_m4 143 rfl
theorem q1030 : (Jvm.Cond.methodLink "FirstSnuffer$Reader" (236 : Nat) ({ cls := "FirstSnuffer$Reader", name := "sum", desc := "()LFirstSnuffer$Value;" } : Jvm.MethodName)) ∈ lw_all := lw_g (lw_at lw_m4 144 rfl) rfl
theorem q1031 : (Jvm.Cond.privateMethod ({ cls := "FirstSnuffer$Reader", name := "sum", desc := "()LFirstSnuffer$Value;" } : Jvm.MethodName)) ∈ lw_tbl := lw_at lw_m4 145 rfl
theorem q1032 : (Jvm.Cond.instanceMethod ({ cls := "FirstSnuffer$Reader", name := "sum", desc := "()LFirstSnuffer$Value;" } : Jvm.MethodName)) ∈ lw_all := lw_g (lw_at lw_m4 146 rfl) rfl
theorem q1033 : (Jvm.Cond.code ({ cls := "FirstSnuffer$Reader", name := "sum", desc := "()LFirstSnuffer$Value;" } : Jvm.MethodName) prog_17_method_23_code (3 : Nat) (Option.some (Jvm.ClassFile.FieldType.object "FirstSnuffer$Value"))) ∈ lw_all := lw_g (lw_at lw_m4 147 rfl) rfl
theorem q1034 : (Jvm.Cond.classLink "FirstSnuffer$Reader" (249 : Nat) "FirstSnuffer$Chain") ∈ lw_all := lw_g (lw_at lw_m4 148 rfl) rfl
theorem q1036 : (Jvm.Cond.methodLinkNest "FirstSnuffer$Reader" (251 : Nat) ({ cls := "FirstSnuffer$Chain", name := "<init>", desc := "()V" } : Jvm.MethodName) "FirstSnuffer") ∈ lw_tbl := lw_at lw_m4 150 rfl
theorem q1075 : (Jvm.Cond.methodLink "FirstSnuffer$Reader" (252 : Nat) ({ cls := "FirstSnuffer$Reader", name := "product", desc := "()LFirstSnuffer$Value;" } : Jvm.MethodName)) ∈ lw_all := lw_g (lw_at lw_m4 189 rfl) rfl
theorem q1076 : (Jvm.Cond.privateMethod ({ cls := "FirstSnuffer$Reader", name := "product", desc := "()LFirstSnuffer$Value;" } : Jvm.MethodName)) ∈ lw_tbl := lw_at lw_m4 190 rfl
theorem q1077 : (Jvm.Cond.instanceMethod ({ cls := "FirstSnuffer$Reader", name := "product", desc := "()LFirstSnuffer$Value;" } : Jvm.MethodName)) ∈ lw_all := lw_g (lw_at lw_m4 191 rfl) rfl
theorem q1078 : (Jvm.Cond.code ({ cls := "FirstSnuffer$Reader", name := "product", desc := "()LFirstSnuffer$Value;" } : Jvm.MethodName) prog_17_method_24_code (3 : Nat) (Option.some (Jvm.ClassFile.FieldType.object "FirstSnuffer$Value"))) ∈ lw_all := lw_g (lw_at lw_m4 192 rfl) rfl
theorem q1079 : (Jvm.Cond.methodLink "FirstSnuffer$Reader" (261 : Nat) ({ cls := "FirstSnuffer$Reader", name := "atom", desc := "()LFirstSnuffer$Value;" } : Jvm.MethodName)) ∈ lw_all := lw_g (lw_at lw_m4 193 rfl) rfl
theorem q1080 : (Jvm.Cond.privateMethod ({ cls := "FirstSnuffer$Reader", name := "atom", desc := "()LFirstSnuffer$Value;" } : Jvm.MethodName)) ∈ lw_tbl := lw_at lw_m4 194 rfl
theorem q1081 : (Jvm.Cond.instanceMethod ({ cls := "FirstSnuffer$Reader", name := "atom", desc := "()LFirstSnuffer$Value;" } : Jvm.MethodName)) ∈ lw_all := lw_g (lw_at lw_m4 195 rfl) rfl
theorem q1082 : (Jvm.Cond.code ({ cls := "FirstSnuffer$Reader", name := "atom", desc := "()LFirstSnuffer$Value;" } : Jvm.MethodName) prog_17_method_27_code (3 : Nat) (Option.some (Jvm.ClassFile.FieldType.object "FirstSnuffer$Value"))) ∈ lw_all := lw_g (lw_at lw_m4 196 rfl) rfl
theorem q1083 : (Jvm.Cond.methodLink "FirstSnuffer$Reader" (272 : Nat) ({ cls := "FirstSnuffer$Reader", name := "within", desc := "(I)LFirstSnuffer$Value;" } : Jvm.MethodName)) ∈ lw_all := lw_g (lw_at lw_m4 197 rfl) rfl
theorem q1084 : (Jvm.Cond.privateMethod ({ cls := "FirstSnuffer$Reader", name := "within", desc := "(I)LFirstSnuffer$Value;" } : Jvm.MethodName)) ∈ lw_tbl := lw_at lw_m4 198 rfl
theorem q1085 : (Jvm.Cond.instanceMethod ({ cls := "FirstSnuffer$Reader", name := "within", desc := "(I)LFirstSnuffer$Value;" } : Jvm.MethodName)) ∈ lw_all := lw_g (lw_at lw_m4 199 rfl) rfl
theorem q1086 : (Jvm.Cond.code ({ cls := "FirstSnuffer$Reader", name := "within", desc := "(I)LFirstSnuffer$Value;" } : Jvm.MethodName) prog_17_method_26_code (4 : Nat) (Option.some (Jvm.ClassFile.FieldType.object "FirstSnuffer$Value"))) ∈ lw_all := lw_g (lw_at lw_m4 200 rfl) rfl
theorem q1087 : (Jvm.Cond.methodLink "FirstSnuffer$Reader" (264 : Nat) ({ cls := "FirstSnuffer$Reader", name := "opens", desc := "(I)V" } : Jvm.MethodName)) ∈ lw_all := lw_g (lw_at lw_m4 201 rfl) rfl
theorem q1088 : (Jvm.Cond.privateMethod ({ cls := "FirstSnuffer$Reader", name := "opens", desc := "(I)V" } : Jvm.MethodName)) ∈ lw_tbl := lw_at lw_m4 202 rfl
theorem q1089 : (Jvm.Cond.instanceMethod ({ cls := "FirstSnuffer$Reader", name := "opens", desc := "(I)V" } : Jvm.MethodName)) ∈ lw_all := lw_g (lw_at lw_m4 203 rfl) rfl
theorem q1090 : (Jvm.Cond.code ({ cls := "FirstSnuffer$Reader", name := "opens", desc := "(I)V" } : Jvm.MethodName) prog_17_method_25_code (2 : Nat) (Option.none : Option Jvm.ClassFile.FieldType)) ∈ lw_all := lw_g (lw_at lw_m4 204 rfl) rfl
theorem q1091 : (Jvm.Cond.methodLink "FirstSnuffer$Reader" (137 : Nat) ({ cls := "FirstSnuffer$Reader", name := "must", desc := "(I)V" } : Jvm.MethodName)) ∈ lw_all := lw_g (lw_at lw_m4 205 rfl) rfl
theorem q1092 : (Jvm.Cond.privateMethod ({ cls := "FirstSnuffer$Reader", name := "must", desc := "(I)V" } : Jvm.MethodName)) ∈ lw_tbl := lw_at lw_m4 206 rfl
theorem q1093 : (Jvm.Cond.instanceMethod ({ cls := "FirstSnuffer$Reader", name := "must", desc := "(I)V" } : Jvm.MethodName)) ∈ lw_all := lw_g (lw_at lw_m4 207 rfl) rfl
theorem q1094 : (Jvm.Cond.code ({ cls := "FirstSnuffer$Reader", name := "must", desc := "(I)V" } : Jvm.MethodName) prog_17_method_5_code (2 : Nat) (Option.none : Option Jvm.ClassFile.FieldType)) ∈ lw_all := lw_g (lw_at lw_m4 208 rfl) rfl
theorem q1095 : (Jvm.Cond.classLink "FirstSnuffer$Reader" (267 : Nat) "FirstSnuffer$Pair") ∈ lw_all := lw_g (lw_at lw_m4 209 rfl) rfl
theorem q1097 : (Jvm.Cond.methodLink "FirstSnuffer$Reader" (269 : Nat) ({ cls := "FirstSnuffer$Pair", name := "<init>", desc := "(ZLFirstSnuffer$Value;LFirstSnuffer$Value;)V" } : Jvm.MethodName)) ∈ lw_all := lw_g (lw_at lw_m4 211 rfl) rfl
theorem q1111 : (Jvm.Cond.classLink "FirstSnuffer$Reader" (276 : Nat) "FirstSnuffer$Fixed") ∈ lw_all := lw_g (lw_at lw_m4 225 rfl) rfl
theorem q1113 : (Jvm.Cond.methodLink "FirstSnuffer$Reader" (278 : Nat) ({ cls := "FirstSnuffer$Fixed", name := "<init>", desc := "(J)V" } : Jvm.MethodName)) ∈ lw_all := lw_g (lw_at lw_m4 227 rfl) rfl
theorem q1121 : (Jvm.Cond.fieldLinkNest "FirstSnuffer$Reader" (281 : Nat) "FirstSnuffer" "ASKED" "[Ljava/lang/String;" "FirstSnuffer") ∈ lw_tbl := lw_at lw_m4 235 rfl
theorem q1123 : (Jvm.Cond.methodLinkNest "FirstSnuffer$Reader" (284 : Nat) ({ cls := "FirstSnuffer", name := "has", desc := "(II)Z" } : Jvm.MethodName) "FirstSnuffer") ∈ lw_tbl := lw_at lw_m4 237 rfl
theorem q1126 : (Jvm.Cond.classLink "FirstSnuffer$Reader" (287 : Nat) "FirstSnuffer$Asked") ∈ lw_all := lw_g (lw_at lw_m5 0 rfl) rfl
theorem q1128 : (Jvm.Cond.methodLink "FirstSnuffer$Reader" (289 : Nat) ({ cls := "FirstSnuffer$Asked", name := "<init>", desc := "(I)V" } : Jvm.MethodName)) ∈ lw_all := lw_g (lw_at lw_m5 2 rfl) rfl
theorem q1136 : (Jvm.Cond.fieldLinkNest "FirstSnuffer$Reader" (291 : Nat) "FirstSnuffer" "LOOKED" "[Ljava/lang/String;" "FirstSnuffer") ∈ lw_tbl := lw_at lw_m5 10 rfl
theorem q1138 : (Jvm.Cond.methodLink "FirstSnuffer$Reader" (294 : Nat) ({ cls := "FirstSnuffer$Reader", name := "looked", desc := "(I)LFirstSnuffer$Value;" } : Jvm.MethodName)) ∈ lw_all := lw_g (lw_at lw_m5 12 rfl) rfl
theorem q1139 : (Jvm.Cond.privateMethod ({ cls := "FirstSnuffer$Reader", name := "looked", desc := "(I)LFirstSnuffer$Value;" } : Jvm.MethodName)) ∈ lw_tbl := lw_at lw_m5 13 rfl
theorem q1140 : (Jvm.Cond.instanceMethod ({ cls := "FirstSnuffer$Reader", name := "looked", desc := "(I)LFirstSnuffer$Value;" } : Jvm.MethodName)) ∈ lw_all := lw_g (lw_at lw_m5 14 rfl) rfl
theorem q1141 : (Jvm.Cond.code ({ cls := "FirstSnuffer$Reader", name := "looked", desc := "(I)LFirstSnuffer$Value;" } : Jvm.MethodName) prog_17_method_31_code (3 : Nat) (Option.some (Jvm.ClassFile.FieldType.object "FirstSnuffer$Value"))) ∈ lw_all := lw_g (lw_at lw_m5 15 rfl) rfl
theorem q1142 : (Jvm.Cond.classLink "FirstSnuffer$Reader" (339 : Nat) "FirstSnuffer$Looked") ∈ lw_all := lw_g (lw_at lw_m5 16 rfl) rfl
theorem q1144 : (Jvm.Cond.methodLink "FirstSnuffer$Reader" (341 : Nat) ({ cls := "FirstSnuffer$Looked", name := "<init>", desc := "(LFirstSnuffer;ILFirstSnuffer$Value;)V" } : Jvm.MethodName)) ∈ lw_all := lw_g (lw_at lw_m5 18 rfl) rfl
theorem q1158 : (Jvm.Cond.stringRef "FirstSnuffer$Reader" (297 : Nat) "min") ∈ lw_tbl := lw_at lw_m5 32 rfl
theorem q1159 : (Jvm.Cond.stringRef "FirstSnuffer$Reader" (299 : Nat) "max") ∈ lw_tbl := lw_at lw_m5 33 rfl
theorem q1160 : (Jvm.Cond.methodLink "FirstSnuffer$Reader" (255 : Nat) ({ cls := "FirstSnuffer$Chain", name := "add", desc := "(CLFirstSnuffer$Value;)V" } : Jvm.MethodName)) ∈ lw_all := lw_g (lw_at lw_m5 34 rfl) rfl
theorem q1221 : (Jvm.Cond.methodLink "FirstSnuffer$Reader" (258 : Nat) ({ cls := "FirstSnuffer$Reader", name := "takes", desc := "(I)Z" } : Jvm.MethodName)) ∈ lw_all := lw_g (lw_at lw_m5 95 rfl) rfl
theorem q1222 : (Jvm.Cond.privateMethod ({ cls := "FirstSnuffer$Reader", name := "takes", desc := "(I)Z" } : Jvm.MethodName)) ∈ lw_tbl := lw_at lw_m5 96 rfl
theorem q1223 : (Jvm.Cond.instanceMethod ({ cls := "FirstSnuffer$Reader", name := "takes", desc := "(I)Z" } : Jvm.MethodName)) ∈ lw_all := lw_g (lw_at lw_m5 97 rfl) rfl
theorem q1224 : (Jvm.Cond.code ({ cls := "FirstSnuffer$Reader", name := "takes", desc := "(I)Z" } : Jvm.MethodName) prog_17_method_22_code (3 : Nat) (Option.some Jvm.ClassFile.FieldType.boolean)) ∈ lw_all := lw_g (lw_at lw_m5 98 rfl) rfl
theorem q1225 : (Jvm.Cond.methodLink "FirstSnuffer$Reader" (243 : Nat) ({ cls := "FirstSnuffer$Reader", name := "test", desc := "()LFirstSnuffer$Test;" } : Jvm.MethodName)) ∈ lw_all := lw_g (lw_at lw_m5 99 rfl) rfl
theorem q1226 : (Jvm.Cond.privateMethod ({ cls := "FirstSnuffer$Reader", name := "test", desc := "()LFirstSnuffer$Test;" } : Jvm.MethodName)) ∈ lw_tbl := lw_at lw_m5 100 rfl
theorem q1227 : (Jvm.Cond.instanceMethod ({ cls := "FirstSnuffer$Reader", name := "test", desc := "()LFirstSnuffer$Test;" } : Jvm.MethodName)) ∈ lw_all := lw_g (lw_at lw_m5 101 rfl) rfl
theorem q1228 : (Jvm.Cond.code ({ cls := "FirstSnuffer$Reader", name := "test", desc := "()LFirstSnuffer$Test;" } : Jvm.MethodName) prog_17_method_28_code (2 : Nat) (Option.some (Jvm.ClassFile.FieldType.object "FirstSnuffer$Test"))) ∈ lw_all := lw_g (lw_at lw_m5 102 rfl) rfl
theorem q1229 : (Jvm.Cond.classLink "FirstSnuffer$Reader" (301 : Nat) "FirstSnuffer$Facts") ∈ lw_all := lw_g (lw_at lw_m5 103 rfl) rfl
theorem q1231 : (Jvm.Cond.methodLink "FirstSnuffer$Reader" (303 : Nat) ({ cls := "FirstSnuffer$Facts", name := "<init>", desc := "(Z)V" } : Jvm.MethodName)) ∈ lw_all := lw_g (lw_at lw_m5 105 rfl) rfl
theorem q1241 : (Jvm.Cond.fieldLinkNest "FirstSnuffer$Reader" (306 : Nat) "FirstSnuffer$Facts" "tests" "Ljava/util/List;" "FirstSnuffer") ∈ lw_tbl := lw_at lw_m5 115 rfl
theorem q1248 : (Jvm.Cond.methodLink "FirstSnuffer$Reader" (309 : Nat) ({ cls := "FirstSnuffer$Reader", name := "both", desc := "()LFirstSnuffer$Test;" } : Jvm.MethodName)) ∈ lw_all := lw_g (lw_at lw_m5 122 rfl) rfl
theorem q1249 : (Jvm.Cond.privateMethod ({ cls := "FirstSnuffer$Reader", name := "both", desc := "()LFirstSnuffer$Test;" } : Jvm.MethodName)) ∈ lw_tbl := lw_at lw_m5 123 rfl
theorem q1250 : (Jvm.Cond.instanceMethod ({ cls := "FirstSnuffer$Reader", name := "both", desc := "()LFirstSnuffer$Test;" } : Jvm.MethodName)) ∈ lw_all := lw_g (lw_at lw_m5 124 rfl) rfl
theorem q1251 : (Jvm.Cond.code ({ cls := "FirstSnuffer$Reader", name := "both", desc := "()LFirstSnuffer$Test;" } : Jvm.MethodName) prog_17_method_29_code (2 : Nat) (Option.some (Jvm.ClassFile.FieldType.object "FirstSnuffer$Test"))) ∈ lw_all := lw_g (lw_at lw_m5 125 rfl) rfl
theorem q1252 : (Jvm.Cond.methodLink "FirstSnuffer$Reader" (317 : Nat) ({ cls := "FirstSnuffer$Reader", name := "fact", desc := "()LFirstSnuffer$Test;" } : Jvm.MethodName)) ∈ lw_all := lw_g (lw_at lw_m5 126 rfl) rfl
theorem q1253 : (Jvm.Cond.privateMethod ({ cls := "FirstSnuffer$Reader", name := "fact", desc := "()LFirstSnuffer$Test;" } : Jvm.MethodName)) ∈ lw_tbl := lw_at lw_m5 127 rfl
theorem q1254 : (Jvm.Cond.instanceMethod ({ cls := "FirstSnuffer$Reader", name := "fact", desc := "()LFirstSnuffer$Test;" } : Jvm.MethodName)) ∈ lw_all := lw_g (lw_at lw_m5 128 rfl) rfl
theorem q1255 : (Jvm.Cond.code ({ cls := "FirstSnuffer$Reader", name := "fact", desc := "()LFirstSnuffer$Test;" } : Jvm.MethodName) prog_17_method_30_code (3 : Nat) (Option.some (Jvm.ClassFile.FieldType.object "FirstSnuffer$Test"))) ∈ lw_all := lw_g (lw_at lw_m5 129 rfl) rfl
theorem q1256 : (Jvm.Cond.stringRef "FirstSnuffer$Reader" (322 : Nat) "not") ∈ lw_tbl := lw_at lw_m5 130 rfl
theorem q1257 : (Jvm.Cond.methodLink "FirstSnuffer$Reader" (314 : Nat) ({ cls := "FirstSnuffer$Reader", name := "passes", desc := "(Ljava/lang/String;)Z" } : Jvm.MethodName)) ∈ lw_all := lw_g (lw_at lw_m5 131 rfl) rfl
theorem q1258 : (Jvm.Cond.privateMethod ({ cls := "FirstSnuffer$Reader", name := "passes", desc := "(Ljava/lang/String;)Z" } : Jvm.MethodName)) ∈ lw_tbl := lw_at lw_m5 132 rfl
theorem q1259 : (Jvm.Cond.instanceMethod ({ cls := "FirstSnuffer$Reader", name := "passes", desc := "(Ljava/lang/String;)Z" } : Jvm.MethodName)) ∈ lw_all := lw_g (lw_at lw_m5 133 rfl) rfl
theorem q1260 : (Jvm.Cond.code ({ cls := "FirstSnuffer$Reader", name := "passes", desc := "(Ljava/lang/String;)Z" } : Jvm.MethodName) prog_17_method_9_code (3 : Nat) (Option.some Jvm.ClassFile.FieldType.boolean)) ∈ lw_all := lw_g (lw_at lw_m5 134 rfl) rfl
theorem q1261 : (Jvm.Cond.classLink "FirstSnuffer$Reader" (324 : Nat) "FirstSnuffer$Not") ∈ lw_all := lw_g (lw_at lw_m5 135 rfl) rfl
theorem q1263 : (Jvm.Cond.methodLink "FirstSnuffer$Reader" (326 : Nat) ({ cls := "FirstSnuffer$Not", name := "<init>", desc := "(LFirstSnuffer$Test;)V" } : Jvm.MethodName)) ∈ lw_all := lw_g (lw_at lw_m5 137 rfl) rfl
theorem q1271 : (Jvm.Cond.stringRef "FirstSnuffer$Reader" (329 : Nat) "all") ∈ lw_tbl := lw_at lw_m5 145 rfl
theorem q1272 : (Jvm.Cond.classLink "FirstSnuffer$Reader" (331 : Nat) "FirstSnuffer$All") ∈ lw_all := lw_g (lw_at lw_m5 146 rfl) rfl
theorem q1274 : (Jvm.Cond.methodLinkNest "FirstSnuffer$Reader" (333 : Nat) ({ cls := "FirstSnuffer$All", name := "<init>", desc := "()V" } : Jvm.MethodName) "FirstSnuffer") ∈ lw_tbl := lw_at lw_m5 148 rfl
theorem q1279 : (Jvm.Cond.classLink "FirstSnuffer$Reader" (334 : Nat) "FirstSnuffer$Than") ∈ lw_all := lw_g (lw_at lw_m5 153 rfl) rfl
theorem q1281 : (Jvm.Cond.methodLink "FirstSnuffer$Reader" (336 : Nat) ({ cls := "FirstSnuffer$Than", name := "<init>", desc := "(LFirstSnuffer$Value;ILFirstSnuffer$Value;)V" } : Jvm.MethodName)) ∈ lw_all := lw_g (lw_at lw_m5 155 rfl) rfl
theorem q1295 : (Jvm.Cond.stringRef "FirstSnuffer$Reader" (320 : Nat) "and") ∈ lw_tbl := lw_at lw_m5 169 rfl
theorem q1296 : (Jvm.Cond.stringRef "FirstSnuffer$Reader" (312 : Nat) "or") ∈ lw_tbl := lw_at lw_m5 170 rfl
theorem q1697 : (Jvm.Cond.instanceMethod ({ cls := "FirstSnuffer$Reader", name := "question", desc := "(I)LFirstSnuffer$Question;" } : Jvm.MethodName)) ∈ lw_all := lw_g (lw_at lw_m7 91 rfl) rfl
theorem q1698 : (Jvm.Cond.selects "FirstSnuffer$Reader" ({ cls := "FirstSnuffer$Reader", name := "question", desc := "(I)LFirstSnuffer$Question;" } : Jvm.MethodName) ({ cls := "FirstSnuffer$Reader", name := "question", desc := "(I)LFirstSnuffer$Question;" } : Jvm.MethodName)) ∈ lw_all := lw_g (lw_at lw_m7 92 rfl) rfl
theorem q1699 : (Jvm.Cond.code ({ cls := "FirstSnuffer$Reader", name := "question", desc := "(I)LFirstSnuffer$Question;" } : Jvm.MethodName) prog_17_method_32_code (4 : Nat) (Option.some (Jvm.ClassFile.FieldType.object "FirstSnuffer$Question"))) ∈ lw_all := lw_g (lw_at lw_m7 93 rfl) rfl
theorem q1700 : (Jvm.Cond.fieldLinkNest "FirstSnuffer$Reader" (344 : Nat) "FirstSnuffer" "TOLD_OF" "[Ljava/lang/String;" "FirstSnuffer") ∈ lw_tbl := lw_at lw_m7 94 rfl
theorem q1702 : (Jvm.Cond.classLink "FirstSnuffer$Reader" (347 : Nat) "FirstSnuffer$Question") ∈ lw_all := lw_g (lw_at lw_m7 96 rfl) rfl
theorem q1704 : (Jvm.Cond.methodLink "FirstSnuffer$Reader" (349 : Nat) ({ cls := "FirstSnuffer$Question", name := "<init>", desc := "(ILFirstSnuffer$Test;LFirstSnuffer$Value;)V" } : Jvm.MethodName)) ∈ lw_all := lw_g (lw_at lw_m7 98 rfl) rfl
theorem q2677 : (Jvm.Cond.castable "FirstSnuffer$Reader" "java/lang/Object") ∈ lw_tbl := lw_at lw_m11 111 rfl
theorem in_X2 : ∀ w ∈ wsX20, w ∈ lw_all := lw_in wsX20 [378, 380, 382, 384, 386, 388, 390, 392] (by decide +kernel) (by decide +kernel)
/-! FirstSnuffer$Fault -/
set_option maxRecDepth 100000
def RX3 : String := "FirstSnuffer$Fault"
def TX3 : u_T := fun k => match k with
  | 0 => ("java/lang/Throwable", "cause", "Ljava/lang/Throwable;", false)
  | 1 => ("java/lang/Throwable", "stackTrace", "[Ljava/lang/StackTraceElement;", false)
  | 2 => ("java/lang/Throwable", "suppressedExceptions", "Ljava/util/List;", false)
  | 3 => ("java/lang/Throwable", "detailMessage", "Ljava/lang/String;", false)
  | 4 => ("java/lang/Throwable", "backtrace", "Ljava/lang/Object;", false)
  | 5 => ("java/lang/Throwable", "depth", "I", false)
  | 6 => ("FirstSnuffer$Fault", "kind", "I", false)
  | _ => ("FirstSnuffer$Fault", "place", "I", false)
def tyX3 : Nat → FieldType := fun k => match k with
  | 0 => .object "java/lang/Throwable"
  | 1 => .array (.object "java/lang/StackTraceElement")
  | 2 => .object "java/util/List"
  | 3 => .object "java/lang/String"
  | 4 => .object "java/lang/Object"
  | 5 => .int
  | 6 => .int
  | _ => .int
abbrev wsX30 : List Cond := u_ws RX3 TX3 8
theorem nmX3 : ∀ a, a < 8 → ∀ b, b < 8 → a ≠ b → (TX3 a).2.1 ≠ (TX3 b).2.1 := by decide +kernel
theorem tyX3_ok : ∀ k, k < 8 → parseFieldDescriptor (TX3 k).2.2.1 = some (tyX3 k) := by decide +kernel
abbrev cX3_init : ByteArray := prog_8_method_1_code
def yX3_init : MethodName := ⟨RX3, "<init>", "()V"⟩
def dkwX3_init_0 : List UInt8 := [42, 1, 1, 3, 3, 183, 0, 1, 177]
abbrev dktX3_init_0 : List UInt8 := dkwX3_init_0 ++ []
theorem dksX3_init_0 : cX3_init.data.toList.drop 0 = dktX3_init_0 := by decide +kernel
theorem dX3_init_0 : decode cX3_init 0 = .ok (.aload_n 0, 1) := dk_42 (dk_at dksX3_init_0 0 rfl rfl)
theorem dX3_init_1 : decode cX3_init 1 = .ok (.aconst_null, 1) := dk_1 (dk_at dksX3_init_0 1 rfl rfl)
theorem dX3_init_2 : decode cX3_init 2 = .ok (.aconst_null, 1) := dk_1 (dk_at dksX3_init_0 2 rfl rfl)
theorem dX3_init_3 : decode cX3_init 3 = .ok (.iconst 0, 1) := dk_3 (dk_at dksX3_init_0 3 rfl rfl)
theorem dX3_init_4 : decode cX3_init 4 = .ok (.iconst 0, 1) := dk_3 (dk_at dksX3_init_0 4 rfl rfl)
theorem dX3_init_5 : decode cX3_init 5 = .ok (.invokespecial 1, 3) := dk_183 0 1 (dk_at dksX3_init_0 5 rfl rfl)
theorem dX3_init_8 : decode cX3_init 8 = .ok (.return_, 1) := dk_177 (dk_at dksX3_init_0 8 rfl rfl)
theorem q176 : (Jvm.Cond.initialized "FirstSnuffer$Fault") ∈ lw_all := lw_g (lw_at lw_m1 10 rfl) rfl
theorem q298 : (Jvm.Cond.instantiable "FirstSnuffer$Fault" (8 : Nat)) ∈ lw_all := lw_g (lw_at lw_m1 132 rfl) rfl
theorem q299 : (Jvm.Cond.castable "FirstSnuffer$Fault" "FirstSnuffer$Fault") ∈ lw_tbl := lw_at lw_m1 133 rfl
theorem q306 : (Jvm.Cond.selects "FirstSnuffer$Fault" ({ cls := "java/lang/Throwable", name := "fillInStackTrace", desc := "(I)Ljava/lang/Throwable;" } : Jvm.MethodName) ({ cls := "java/lang/Throwable", name := "fillInStackTrace", desc := "(I)Ljava/lang/Throwable;" } : Jvm.MethodName)) ∈ lw_all := lw_g (lw_at lw_m1 140 rfl) rfl
theorem q307 : (Jvm.Cond.selects "FirstSnuffer$Fault" ({ cls := "java/lang/Throwable", name := "fillInStackTrace", desc := "()Ljava/lang/Throwable;" } : Jvm.MethodName) ({ cls := "java/lang/Throwable", name := "fillInStackTrace", desc := "()Ljava/lang/Throwable;" } : Jvm.MethodName)) ∈ lw_all := lw_g (lw_at lw_m1 141 rfl) rfl
theorem q308 : (Jvm.Cond.lays "FirstSnuffer$Fault" "java/lang/Throwable" "cause" "Ljava/lang/Throwable;") ∈ lw_all := lw_g (lw_at lw_m1 142 rfl) rfl
theorem q310 : (Jvm.Cond.lays "FirstSnuffer$Fault" "java/lang/Throwable" "stackTrace" "[Ljava/lang/StackTraceElement;") ∈ lw_all := lw_g (lw_at lw_m1 144 rfl) rfl
theorem q312 : (Jvm.Cond.lays "FirstSnuffer$Fault" "java/lang/Throwable" "suppressedExceptions" "Ljava/util/List;") ∈ lw_all := lw_g (lw_at lw_m1 146 rfl) rfl
theorem q314 : (Jvm.Cond.lays "FirstSnuffer$Fault" "java/lang/Throwable" "detailMessage" "Ljava/lang/String;") ∈ lw_all := lw_g (lw_at lw_m1 148 rfl) rfl
theorem q316 : (Jvm.Cond.lays "FirstSnuffer$Fault" "java/lang/Throwable" "backtrace" "Ljava/lang/Object;") ∈ lw_all := lw_g (lw_at lw_m1 150 rfl) rfl
theorem q337 : (Jvm.Cond.instanceMethod ({ cls := "FirstSnuffer$Fault", name := "<init>", desc := "()V" } : Jvm.MethodName)) ∈ lw_all := lw_g (lw_at lw_m1 171 rfl) rfl
theorem q338 : (Jvm.Cond.code ({ cls := "FirstSnuffer$Fault", name := "<init>", desc := "()V" } : Jvm.MethodName) prog_8_method_1_code (1 : Nat) (Option.none : Option Jvm.ClassFile.FieldType)) ∈ lw_all := lw_g (lw_at lw_m1 172 rfl) rfl
theorem q339 : (Jvm.Cond.methodLink "FirstSnuffer$Fault" (1 : Nat) ({ cls := "java/lang/RuntimeException", name := "<init>", desc := "(Ljava/lang/String;Ljava/lang/Throwable;ZZ)V" } : Jvm.MethodName)) ∈ lw_all := lw_g (lw_at lw_m1 173 rfl) rfl
theorem q357 : (Jvm.Cond.lays "FirstSnuffer$Fault" "FirstSnuffer$Fault" "kind" "I") ∈ lw_all := lw_g (lw_at lw_m1 191 rfl) rfl
theorem q358 : (Jvm.Cond.soleField "FirstSnuffer$Fault" "kind") ∈ lw_all := lw_g (lw_at lw_m1 192 rfl) rfl
theorem q359 : (Jvm.Cond.lays "FirstSnuffer$Fault" "FirstSnuffer$Fault" "place" "I") ∈ lw_all := lw_g (lw_at lw_m1 193 rfl) rfl
theorem q360 : (Jvm.Cond.soleField "FirstSnuffer$Fault" "place") ∈ lw_all := lw_g (lw_at lw_m1 194 rfl) rfl
theorem q365 : (Jvm.Cond.lays "FirstSnuffer$Fault" "java/lang/Throwable" "depth" "I") ∈ lw_all := lw_g (lw_at lw_m1 199 rfl) rfl
theorem q368 : (Jvm.Cond.superclass "FirstSnuffer$Fault" "java/lang/RuntimeException") ∈ lw_all := lw_g (lw_at lw_m1 202 rfl) rfl
theorem q889 : (Jvm.Cond.selects "FirstSnuffer$Fault" ({ cls := "java/lang/Object", name := "getClass", desc := "()Ljava/lang/Class;" } : Jvm.MethodName) ({ cls := "java/lang/Object", name := "getClass", desc := "()Ljava/lang/Class;" } : Jvm.MethodName)) ∈ lw_all := lw_g (lw_at lw_m4 3 rfl) rfl
theorem q2678 : (Jvm.Cond.castable "FirstSnuffer$Fault" "java/lang/Object") ∈ lw_tbl := lw_at lw_m11 112 rfl
theorem in_X3 : ∀ w ∈ wsX30, w ∈ lw_all := lw_in wsX30 [308, 310, 312, 314, 316, 365, 357, 359] (by decide +kernel) (by decide +kernel)
/-! FirstSnuffer$Moment -/
set_option maxRecDepth 100000
def RX4 : String := "FirstSnuffer$Moment"
def TX4 : u_T := fun k => match k with
  | _ => ("FirstSnuffer$Moment", "of", "[J", true)
def tyX4 : Nat → FieldType := fun k => match k with
  | _ => .array .long
abbrev wsX40 : List Cond := u_ws RX4 TX4 1
theorem nmX4 : ∀ a, a < 1 → ∀ b, b < 1 → a ≠ b → (TX4 a).2.1 ≠ (TX4 b).2.1 := by decide +kernel
theorem tyX4_ok : ∀ k, k < 1 → parseFieldDescriptor (TX4 k).2.2.1 = some (tyX4 k) := by decide +kernel
abbrev cX4_init : ByteArray := prog_12_method_1_code
def yX4_init : MethodName := ⟨RX4, "<init>", "()V"⟩
def dkwX4_init_0 : List UInt8 := [42, 183, 0, 1, 42, 16, 7, 188, 11, 181, 0, 7, 177]
abbrev dktX4_init_0 : List UInt8 := dkwX4_init_0 ++ []
theorem dksX4_init_0 : cX4_init.data.toList.drop 0 = dktX4_init_0 := by decide +kernel
theorem dX4_init_0 : decode cX4_init 0 = .ok (.aload_n 0, 1) := dk_42 (dk_at dksX4_init_0 0 rfl rfl)
theorem dX4_init_1 : decode cX4_init 1 = .ok (.invokespecial 1, 3) := dk_183 0 1 (dk_at dksX4_init_0 1 rfl rfl)
theorem dX4_init_4 : decode cX4_init 4 = .ok (.aload_n 0, 1) := dk_42 (dk_at dksX4_init_0 4 rfl rfl)
theorem dX4_init_5 : decode cX4_init 5 = .ok (.bipush 7, 2) := dk_16 7 (dk_at dksX4_init_0 5 rfl rfl)
theorem dX4_init_7 : decode cX4_init 7 = .ok (.newarray .long, 2) := dk_188_11 (dk_at dksX4_init_0 7 rfl rfl)
theorem dX4_init_9 : decode cX4_init 9 = .ok (.putfield 7, 3) := dk_181 0 7 (dk_at dksX4_init_0 9 rfl rfl)
theorem dX4_init_12 : decode cX4_init 12 = .ok (.return_, 1) := dk_177 (dk_at dksX4_init_0 12 rfl rfl)
theorem q177 : (Jvm.Cond.initialized "FirstSnuffer$Moment") ∈ lw_all := lw_g (lw_at lw_m1 11 rfl) rfl
theorem q396 : (Jvm.Cond.instantiable "FirstSnuffer$Moment" (1 : Nat)) ∈ lw_all := lw_g (lw_at lw_m1 230 rfl) rfl
theorem q398 : (Jvm.Cond.instanceMethod ({ cls := "FirstSnuffer$Moment", name := "<init>", desc := "()V" } : Jvm.MethodName)) ∈ lw_all := lw_g (lw_at lw_m1 232 rfl) rfl
theorem q399 : (Jvm.Cond.code ({ cls := "FirstSnuffer$Moment", name := "<init>", desc := "()V" } : Jvm.MethodName) prog_12_method_1_code (1 : Nat) (Option.none : Option Jvm.ClassFile.FieldType)) ∈ lw_all := lw_g (lw_at lw_m1 233 rfl) rfl
theorem q400 : (Jvm.Cond.methodLink "FirstSnuffer$Moment" (1 : Nat) ({ cls := "java/lang/Object", name := "<init>", desc := "()V" } : Jvm.MethodName)) ∈ lw_all := lw_g (lw_at lw_m1 234 rfl) rfl
theorem q401 : (Jvm.Cond.fieldLink "FirstSnuffer$Moment" (7 : Nat) "FirstSnuffer$Moment" "of" "[J") ∈ lw_all := lw_g (lw_at lw_m1 235 rfl) rfl
theorem q405 : (Jvm.Cond.laysFinal "FirstSnuffer$Moment" "FirstSnuffer$Moment" "of" "[J") ∈ lw_all := lw_g (lw_at lw_m1 239 rfl) rfl
theorem q406 : (Jvm.Cond.soleField "FirstSnuffer$Moment" "of") ∈ lw_all := lw_g (lw_at lw_m2 0 rfl) rfl
theorem q407 : (Jvm.Cond.superclass "FirstSnuffer$Moment" "java/lang/Object") ∈ lw_all := lw_g (lw_at lw_m2 1 rfl) rfl
theorem q893 : (Jvm.Cond.selects "FirstSnuffer$Moment" ({ cls := "java/lang/Object", name := "getClass", desc := "()Ljava/lang/Class;" } : Jvm.MethodName) ({ cls := "java/lang/Object", name := "getClass", desc := "()Ljava/lang/Class;" } : Jvm.MethodName)) ∈ lw_all := lw_g (lw_at lw_m4 7 rfl) rfl
theorem q2679 : (Jvm.Cond.castable "FirstSnuffer$Moment" "java/lang/Object") ∈ lw_tbl := lw_at lw_m11 113 rfl
theorem in_X4 : ∀ w ∈ wsX40, w ∈ lw_all := lw_in wsX40 [405] (by decide +kernel) (by decide +kernel)
/-! FirstSnuffer$State -/
set_option maxRecDepth 100000
def RX5 : String := "FirstSnuffer$State"
def TX5 : u_T := fun k => match k with
  | 0 => ("FirstSnuffer$State", "hour", "I", false)
  | 1 => ("FirstSnuffer$State", "keeps", "I", false)
  | 2 => ("FirstSnuffer$State", "at", "I", false)
  | 3 => ("FirstSnuffer$State", "tied", "I", false)
  | 4 => ("FirstSnuffer$State", "strength", "[I", true)
  | 5 => ("FirstSnuffer$State", "next", "[I", true)
  | 6 => ("FirstSnuffer$State", "smell", "[I", true)
  | 7 => ("FirstSnuffer$State", "hot", "[I", true)
  | 8 => ("FirstSnuffer$State", "rows", "[[I", true)
  | _ => ("FirstSnuffer$State", "this$0", "LFirstSnuffer;", true)
def tyX5 : Nat → FieldType := fun k => match k with
  | 0 => .int
  | 1 => .int
  | 2 => .int
  | 3 => .int
  | 4 => .array .int
  | 5 => .array .int
  | 6 => .array .int
  | 7 => .array .int
  | 8 => .array (.array .int)
  | _ => .object "FirstSnuffer"
abbrev wsX50 : List Cond := u_ws RX5 TX5 10
theorem nmX5 : ∀ a, a < 10 → ∀ b, b < 10 → a ≠ b → (TX5 a).2.1 ≠ (TX5 b).2.1 := by decide +kernel
theorem tyX5_ok : ∀ k, k < 10 → parseFieldDescriptor (TX5 k).2.2.1 = some (tyX5 k) := by decide +kernel
abbrev cX5_init : ByteArray := prog_18_method_1_code
def yX5_init : MethodName := ⟨RX5, "<init>", "(LFirstSnuffer;)V"⟩
def dkwX5_init_2 : List UInt8 := [197, 0, 28, 2, 181, 0, 30, 177]
abbrev dktX5_init_2 : List UInt8 := dkwX5_init_2 ++ []
def dkwX5_init_1 : List UInt8 := [181, 0, 19, 42, 16, 8, 188, 10, 181, 0, 22, 42, 16, 8, 188, 10, 181, 0, 25, 42, 16, 40, 6]
abbrev dktX5_init_1 : List UInt8 := dkwX5_init_1 ++ dktX5_init_2
def dkwX5_init_0 : List UInt8 := [42, 43, 181, 0, 3, 42, 183, 0, 9, 42, 16, 8, 188, 10, 181, 0, 15, 42, 16, 8, 188, 10]
abbrev dktX5_init_0 : List UInt8 := dkwX5_init_0 ++ dktX5_init_1
theorem dksX5_init_0 : cX5_init.data.toList.drop 0 = dktX5_init_0 := by decide +kernel
theorem dksX5_init_1 : cX5_init.data.toList.drop 22 = dktX5_init_1 := dk_seg dksX5_init_0 22 rfl rfl
theorem dksX5_init_2 : cX5_init.data.toList.drop 45 = dktX5_init_2 := dk_seg dksX5_init_1 23 rfl rfl
theorem dX5_init_0 : decode cX5_init 0 = .ok (.aload_n 0, 1) := dk_42 (dk_at dksX5_init_0 0 rfl rfl)
theorem dX5_init_1 : decode cX5_init 1 = .ok (.aload_n 1, 1) := dk_43 (dk_at dksX5_init_0 1 rfl rfl)
theorem dX5_init_2 : decode cX5_init 2 = .ok (.putfield 3, 3) := dk_181 0 3 (dk_at dksX5_init_0 2 rfl rfl)
theorem dX5_init_5 : decode cX5_init 5 = .ok (.aload_n 0, 1) := dk_42 (dk_at dksX5_init_0 5 rfl rfl)
theorem dX5_init_6 : decode cX5_init 6 = .ok (.invokespecial 9, 3) := dk_183 0 9 (dk_at dksX5_init_0 6 rfl rfl)
theorem dX5_init_9 : decode cX5_init 9 = .ok (.aload_n 0, 1) := dk_42 (dk_at dksX5_init_0 9 rfl rfl)
theorem dX5_init_10 : decode cX5_init 10 = .ok (.bipush 8, 2) := dk_16 8 (dk_at dksX5_init_0 10 rfl rfl)
theorem dX5_init_12 : decode cX5_init 12 = .ok (.newarray .int, 2) := dk_188_10 (dk_at dksX5_init_0 12 rfl rfl)
theorem dX5_init_14 : decode cX5_init 14 = .ok (.putfield 15, 3) := dk_181 0 15 (dk_at dksX5_init_0 14 rfl rfl)
theorem dX5_init_17 : decode cX5_init 17 = .ok (.aload_n 0, 1) := dk_42 (dk_at dksX5_init_0 17 rfl rfl)
theorem dX5_init_18 : decode cX5_init 18 = .ok (.bipush 8, 2) := dk_16 8 (dk_at dksX5_init_0 18 rfl rfl)
theorem dX5_init_20 : decode cX5_init 20 = .ok (.newarray .int, 2) := dk_188_10 (dk_at dksX5_init_0 20 rfl rfl)
theorem dX5_init_22 : decode cX5_init 22 = .ok (.putfield 19, 3) := dk_181 0 19 (dk_at dksX5_init_1 0 rfl rfl)
theorem dX5_init_25 : decode cX5_init 25 = .ok (.aload_n 0, 1) := dk_42 (dk_at dksX5_init_1 3 rfl rfl)
theorem dX5_init_26 : decode cX5_init 26 = .ok (.bipush 8, 2) := dk_16 8 (dk_at dksX5_init_1 4 rfl rfl)
theorem dX5_init_28 : decode cX5_init 28 = .ok (.newarray .int, 2) := dk_188_10 (dk_at dksX5_init_1 6 rfl rfl)
theorem dX5_init_30 : decode cX5_init 30 = .ok (.putfield 22, 3) := dk_181 0 22 (dk_at dksX5_init_1 8 rfl rfl)
theorem dX5_init_33 : decode cX5_init 33 = .ok (.aload_n 0, 1) := dk_42 (dk_at dksX5_init_1 11 rfl rfl)
theorem dX5_init_34 : decode cX5_init 34 = .ok (.bipush 8, 2) := dk_16 8 (dk_at dksX5_init_1 12 rfl rfl)
theorem dX5_init_36 : decode cX5_init 36 = .ok (.newarray .int, 2) := dk_188_10 (dk_at dksX5_init_1 14 rfl rfl)
theorem dX5_init_38 : decode cX5_init 38 = .ok (.putfield 25, 3) := dk_181 0 25 (dk_at dksX5_init_1 16 rfl rfl)
theorem dX5_init_41 : decode cX5_init 41 = .ok (.aload_n 0, 1) := dk_42 (dk_at dksX5_init_1 19 rfl rfl)
theorem dX5_init_42 : decode cX5_init 42 = .ok (.bipush 40, 2) := dk_16 40 (dk_at dksX5_init_1 20 rfl rfl)
theorem dX5_init_44 : decode cX5_init 44 = .ok (.iconst 3, 1) := dk_6 (dk_at dksX5_init_1 22 rfl rfl)
theorem dX5_init_45 : decode cX5_init 45 = .ok (.multianewarray 28 2, 4) := by decide +kernel
theorem dX5_init_49 : decode cX5_init 49 = .ok (.putfield 30, 3) := dk_181 0 30 (dk_at dksX5_init_2 4 rfl rfl)
theorem dX5_init_52 : decode cX5_init 52 = .ok (.return_, 1) := dk_177 (dk_at dksX5_init_2 7 rfl rfl)
abbrev cX5_begins : ByteArray := prog_18_method_2_code
def yX5_begins : MethodName := ⟨RX5, "begins", "()V"⟩
def dkwX5_begins_4 : List UInt8 := [132, 1, 1, 167, 255, 201, 177]
abbrev dktX5_begins_4 : List UInt8 := dkwX5_begins_4 ++ []
def dkwX5_begins_3 : List UInt8 := [180, 0, 22, 27, 3, 79, 42, 180, 0, 25, 27, 42, 180, 0, 3, 27, 182, 0, 62, 180, 0, 70, 79]
abbrev dktX5_begins_3 : List UInt8 := dkwX5_begins_3 ++ dktX5_begins_4
def dkwX5_begins_2 : List UInt8 := [182, 0, 59, 162, 0, 50, 42, 180, 0, 15, 27, 42, 180, 0, 3, 27, 182, 0, 62, 180, 0, 66, 79, 42]
abbrev dktX5_begins_2 : List UInt8 := dkwX5_begins_2 ++ dktX5_begins_3
def dkwX5_begins_1 : List UInt8 := [42, 4, 42, 180, 0, 3, 182, 0, 52, 120, 4, 100, 181, 0, 56, 3, 60, 27, 42, 180, 0, 3]
abbrev dktX5_begins_1 : List UInt8 := dkwX5_begins_1 ++ dktX5_begins_2
def dkwX5_begins_0 : List UInt8 := [42, 3, 181, 0, 33, 42, 3, 181, 0, 37, 42, 42, 180, 0, 3, 180, 0, 40, 180, 0, 44, 181, 0, 49]
abbrev dktX5_begins_0 : List UInt8 := dkwX5_begins_0 ++ dktX5_begins_1
theorem dksX5_begins_0 : cX5_begins.data.toList.drop 0 = dktX5_begins_0 := by decide +kernel
theorem dksX5_begins_1 : cX5_begins.data.toList.drop 24 = dktX5_begins_1 := dk_seg dksX5_begins_0 24 rfl rfl
theorem dksX5_begins_2 : cX5_begins.data.toList.drop 46 = dktX5_begins_2 := dk_seg dksX5_begins_1 22 rfl rfl
theorem dksX5_begins_3 : cX5_begins.data.toList.drop 70 = dktX5_begins_3 := dk_seg dksX5_begins_2 24 rfl rfl
theorem dksX5_begins_4 : cX5_begins.data.toList.drop 93 = dktX5_begins_4 := dk_seg dksX5_begins_3 23 rfl rfl
theorem dX5_begins_0 : decode cX5_begins 0 = .ok (.aload_n 0, 1) := dk_42 (dk_at dksX5_begins_0 0 rfl rfl)
theorem dX5_begins_1 : decode cX5_begins 1 = .ok (.iconst 0, 1) := dk_3 (dk_at dksX5_begins_0 1 rfl rfl)
theorem dX5_begins_2 : decode cX5_begins 2 = .ok (.putfield 33, 3) := dk_181 0 33 (dk_at dksX5_begins_0 2 rfl rfl)
theorem dX5_begins_5 : decode cX5_begins 5 = .ok (.aload_n 0, 1) := dk_42 (dk_at dksX5_begins_0 5 rfl rfl)
theorem dX5_begins_6 : decode cX5_begins 6 = .ok (.iconst 0, 1) := dk_3 (dk_at dksX5_begins_0 6 rfl rfl)
theorem dX5_begins_7 : decode cX5_begins 7 = .ok (.putfield 37, 3) := dk_181 0 37 (dk_at dksX5_begins_0 7 rfl rfl)
theorem dX5_begins_10 : decode cX5_begins 10 = .ok (.aload_n 0, 1) := dk_42 (dk_at dksX5_begins_0 10 rfl rfl)
theorem dX5_begins_11 : decode cX5_begins 11 = .ok (.aload_n 0, 1) := dk_42 (dk_at dksX5_begins_0 11 rfl rfl)
theorem dX5_begins_12 : decode cX5_begins 12 = .ok (.getfield 3, 3) := dk_180 0 3 (dk_at dksX5_begins_0 12 rfl rfl)
theorem dX5_begins_15 : decode cX5_begins 15 = .ok (.getfield 40, 3) := dk_180 0 40 (dk_at dksX5_begins_0 15 rfl rfl)
theorem dX5_begins_18 : decode cX5_begins 18 = .ok (.getfield 44, 3) := dk_180 0 44 (dk_at dksX5_begins_0 18 rfl rfl)
theorem dX5_begins_21 : decode cX5_begins 21 = .ok (.putfield 49, 3) := dk_181 0 49 (dk_at dksX5_begins_0 21 rfl rfl)
theorem dX5_begins_24 : decode cX5_begins 24 = .ok (.aload_n 0, 1) := dk_42 (dk_at dksX5_begins_1 0 rfl rfl)
theorem dX5_begins_25 : decode cX5_begins 25 = .ok (.iconst 1, 1) := dk_4 (dk_at dksX5_begins_1 1 rfl rfl)
theorem dX5_begins_26 : decode cX5_begins 26 = .ok (.aload_n 0, 1) := dk_42 (dk_at dksX5_begins_1 2 rfl rfl)
theorem dX5_begins_27 : decode cX5_begins 27 = .ok (.getfield 3, 3) := dk_180 0 3 (dk_at dksX5_begins_1 3 rfl rfl)
theorem dX5_begins_30 : decode cX5_begins 30 = .ok (.invokevirtual 52, 3) := dk_182 0 52 (dk_at dksX5_begins_1 6 rfl rfl)
theorem dX5_begins_33 : decode cX5_begins 33 = .ok (.ishl, 1) := dk_120 (dk_at dksX5_begins_1 9 rfl rfl)
theorem dX5_begins_34 : decode cX5_begins 34 = .ok (.iconst 1, 1) := dk_4 (dk_at dksX5_begins_1 10 rfl rfl)
theorem dX5_begins_35 : decode cX5_begins 35 = .ok (.isub, 1) := dk_100 (dk_at dksX5_begins_1 11 rfl rfl)
theorem dX5_begins_36 : decode cX5_begins 36 = .ok (.putfield 56, 3) := dk_181 0 56 (dk_at dksX5_begins_1 12 rfl rfl)
theorem dX5_begins_39 : decode cX5_begins 39 = .ok (.iconst 0, 1) := dk_3 (dk_at dksX5_begins_1 15 rfl rfl)
theorem dX5_begins_40 : decode cX5_begins 40 = .ok (.istore_n 1, 1) := dk_60 (dk_at dksX5_begins_1 16 rfl rfl)
theorem dX5_begins_41 : decode cX5_begins 41 = .ok (.iload_n 1, 1) := dk_27 (dk_at dksX5_begins_1 17 rfl rfl)
theorem dX5_begins_42 : decode cX5_begins 42 = .ok (.aload_n 0, 1) := dk_42 (dk_at dksX5_begins_1 18 rfl rfl)
theorem dX5_begins_43 : decode cX5_begins 43 = .ok (.getfield 3, 3) := dk_180 0 3 (dk_at dksX5_begins_1 19 rfl rfl)
theorem dX5_begins_46 : decode cX5_begins 46 = .ok (.invokevirtual 59, 3) := dk_182 0 59 (dk_at dksX5_begins_2 0 rfl rfl)
theorem dX5_begins_49 : decode cX5_begins 49 = .ok (.if_icmp .ge 50, 3) := dk_162 0 50 (dk_at dksX5_begins_2 3 rfl rfl)
theorem dX5_begins_52 : decode cX5_begins 52 = .ok (.aload_n 0, 1) := dk_42 (dk_at dksX5_begins_2 6 rfl rfl)
theorem dX5_begins_53 : decode cX5_begins 53 = .ok (.getfield 15, 3) := dk_180 0 15 (dk_at dksX5_begins_2 7 rfl rfl)
theorem dX5_begins_56 : decode cX5_begins 56 = .ok (.iload_n 1, 1) := dk_27 (dk_at dksX5_begins_2 10 rfl rfl)
theorem dX5_begins_57 : decode cX5_begins 57 = .ok (.aload_n 0, 1) := dk_42 (dk_at dksX5_begins_2 11 rfl rfl)
theorem dX5_begins_58 : decode cX5_begins 58 = .ok (.getfield 3, 3) := dk_180 0 3 (dk_at dksX5_begins_2 12 rfl rfl)
theorem dX5_begins_61 : decode cX5_begins 61 = .ok (.iload_n 1, 1) := dk_27 (dk_at dksX5_begins_2 15 rfl rfl)
theorem dX5_begins_62 : decode cX5_begins 62 = .ok (.invokevirtual 62, 3) := dk_182 0 62 (dk_at dksX5_begins_2 16 rfl rfl)
theorem dX5_begins_65 : decode cX5_begins 65 = .ok (.getfield 66, 3) := dk_180 0 66 (dk_at dksX5_begins_2 19 rfl rfl)
theorem dX5_begins_68 : decode cX5_begins 68 = .ok (.iastore, 1) := dk_79 (dk_at dksX5_begins_2 22 rfl rfl)
theorem dX5_begins_69 : decode cX5_begins 69 = .ok (.aload_n 0, 1) := dk_42 (dk_at dksX5_begins_2 23 rfl rfl)
theorem dX5_begins_70 : decode cX5_begins 70 = .ok (.getfield 22, 3) := dk_180 0 22 (dk_at dksX5_begins_3 0 rfl rfl)
theorem dX5_begins_73 : decode cX5_begins 73 = .ok (.iload_n 1, 1) := dk_27 (dk_at dksX5_begins_3 3 rfl rfl)
theorem dX5_begins_74 : decode cX5_begins 74 = .ok (.iconst 0, 1) := dk_3 (dk_at dksX5_begins_3 4 rfl rfl)
theorem dX5_begins_75 : decode cX5_begins 75 = .ok (.iastore, 1) := dk_79 (dk_at dksX5_begins_3 5 rfl rfl)
theorem dX5_begins_76 : decode cX5_begins 76 = .ok (.aload_n 0, 1) := dk_42 (dk_at dksX5_begins_3 6 rfl rfl)
theorem dX5_begins_77 : decode cX5_begins 77 = .ok (.getfield 25, 3) := dk_180 0 25 (dk_at dksX5_begins_3 7 rfl rfl)
theorem dX5_begins_80 : decode cX5_begins 80 = .ok (.iload_n 1, 1) := dk_27 (dk_at dksX5_begins_3 10 rfl rfl)
theorem dX5_begins_81 : decode cX5_begins 81 = .ok (.aload_n 0, 1) := dk_42 (dk_at dksX5_begins_3 11 rfl rfl)
theorem dX5_begins_82 : decode cX5_begins 82 = .ok (.getfield 3, 3) := dk_180 0 3 (dk_at dksX5_begins_3 12 rfl rfl)
theorem dX5_begins_85 : decode cX5_begins 85 = .ok (.iload_n 1, 1) := dk_27 (dk_at dksX5_begins_3 15 rfl rfl)
theorem dX5_begins_86 : decode cX5_begins 86 = .ok (.invokevirtual 62, 3) := dk_182 0 62 (dk_at dksX5_begins_3 16 rfl rfl)
theorem dX5_begins_89 : decode cX5_begins 89 = .ok (.getfield 70, 3) := dk_180 0 70 (dk_at dksX5_begins_3 19 rfl rfl)
theorem dX5_begins_92 : decode cX5_begins 92 = .ok (.iastore, 1) := dk_79 (dk_at dksX5_begins_3 22 rfl rfl)
theorem dX5_begins_93 : decode cX5_begins 93 = .ok (.iinc 1 1, 3) := dk_132 1 1 (dk_at dksX5_begins_4 0 rfl rfl)
theorem dX5_begins_96 : decode cX5_begins 96 = .ok (.goto (-55), 3) := dk_167 255 201 (dk_at dksX5_begins_4 3 rfl rfl)
theorem dX5_begins_99 : decode cX5_begins 99 = .ok (.return_, 1) := dk_177 (dk_at dksX5_begins_4 6 rfl rfl)
abbrev cX5_lit : ByteArray := prog_18_method_18_code
def yX5_lit : MethodName := ⟨RX5, "lit", "()I"⟩
def dkwX5_lit_1 : List UInt8 := [4, 28, 120, 167, 0, 4, 3, 128, 60, 132, 2, 1, 167, 255, 224, 27, 172]
abbrev dktX5_lit_1 : List UInt8 := dkwX5_lit_1 ++ []
def dkwX5_lit_0 : List UInt8 := [3, 60, 3, 61, 28, 42, 180, 0, 3, 182, 0, 59, 162, 0, 27, 27, 42, 28, 182, 0, 73, 153, 0, 9]
abbrev dktX5_lit_0 : List UInt8 := dkwX5_lit_0 ++ dktX5_lit_1
theorem dksX5_lit_0 : cX5_lit.data.toList.drop 0 = dktX5_lit_0 := by decide +kernel
theorem dksX5_lit_1 : cX5_lit.data.toList.drop 24 = dktX5_lit_1 := dk_seg dksX5_lit_0 24 rfl rfl
theorem dX5_lit_0 : decode cX5_lit 0 = .ok (.iconst 0, 1) := dk_3 (dk_at dksX5_lit_0 0 rfl rfl)
theorem dX5_lit_1 : decode cX5_lit 1 = .ok (.istore_n 1, 1) := dk_60 (dk_at dksX5_lit_0 1 rfl rfl)
theorem dX5_lit_2 : decode cX5_lit 2 = .ok (.iconst 0, 1) := dk_3 (dk_at dksX5_lit_0 2 rfl rfl)
theorem dX5_lit_3 : decode cX5_lit 3 = .ok (.istore_n 2, 1) := dk_61 (dk_at dksX5_lit_0 3 rfl rfl)
theorem dX5_lit_4 : decode cX5_lit 4 = .ok (.iload_n 2, 1) := dk_28 (dk_at dksX5_lit_0 4 rfl rfl)
theorem dX5_lit_5 : decode cX5_lit 5 = .ok (.aload_n 0, 1) := dk_42 (dk_at dksX5_lit_0 5 rfl rfl)
theorem dX5_lit_6 : decode cX5_lit 6 = .ok (.getfield 3, 3) := dk_180 0 3 (dk_at dksX5_lit_0 6 rfl rfl)
theorem dX5_lit_9 : decode cX5_lit 9 = .ok (.invokevirtual 59, 3) := dk_182 0 59 (dk_at dksX5_lit_0 9 rfl rfl)
theorem dX5_lit_12 : decode cX5_lit 12 = .ok (.if_icmp .ge 27, 3) := dk_162 0 27 (dk_at dksX5_lit_0 12 rfl rfl)
theorem dX5_lit_15 : decode cX5_lit 15 = .ok (.iload_n 1, 1) := dk_27 (dk_at dksX5_lit_0 15 rfl rfl)
theorem dX5_lit_16 : decode cX5_lit 16 = .ok (.aload_n 0, 1) := dk_42 (dk_at dksX5_lit_0 16 rfl rfl)
theorem dX5_lit_17 : decode cX5_lit 17 = .ok (.iload_n 2, 1) := dk_28 (dk_at dksX5_lit_0 17 rfl rfl)
theorem dX5_lit_18 : decode cX5_lit 18 = .ok (.invokevirtual 73, 3) := dk_182 0 73 (dk_at dksX5_lit_0 18 rfl rfl)
theorem dX5_lit_21 : decode cX5_lit 21 = .ok (.ifCond .eq 9, 3) := dk_153 0 9 (dk_at dksX5_lit_0 21 rfl rfl)
theorem dX5_lit_24 : decode cX5_lit 24 = .ok (.iconst 1, 1) := dk_4 (dk_at dksX5_lit_1 0 rfl rfl)
theorem dX5_lit_25 : decode cX5_lit 25 = .ok (.iload_n 2, 1) := dk_28 (dk_at dksX5_lit_1 1 rfl rfl)
theorem dX5_lit_26 : decode cX5_lit 26 = .ok (.ishl, 1) := dk_120 (dk_at dksX5_lit_1 2 rfl rfl)
theorem dX5_lit_27 : decode cX5_lit 27 = .ok (.goto 4, 3) := dk_167 0 4 (dk_at dksX5_lit_1 3 rfl rfl)
theorem dX5_lit_30 : decode cX5_lit 30 = .ok (.iconst 0, 1) := dk_3 (dk_at dksX5_lit_1 6 rfl rfl)
theorem dX5_lit_31 : decode cX5_lit 31 = .ok (.ior, 1) := dk_128 (dk_at dksX5_lit_1 7 rfl rfl)
theorem dX5_lit_32 : decode cX5_lit 32 = .ok (.istore_n 1, 1) := dk_60 (dk_at dksX5_lit_1 8 rfl rfl)
theorem dX5_lit_33 : decode cX5_lit 33 = .ok (.iinc 2 1, 3) := dk_132 2 1 (dk_at dksX5_lit_1 9 rfl rfl)
theorem dX5_lit_36 : decode cX5_lit 36 = .ok (.goto (-32), 3) := dk_167 255 224 (dk_at dksX5_lit_1 12 rfl rfl)
theorem dX5_lit_39 : decode cX5_lit 39 = .ok (.iload_n 1, 1) := dk_27 (dk_at dksX5_lit_1 15 rfl rfl)
theorem dX5_lit_40 : decode cX5_lit 40 = .ok (.ireturn, 1) := dk_172 (dk_at dksX5_lit_1 16 rfl rfl)
abbrev cX5_isLit : ByteArray := prog_18_method_4_code
def yX5_isLit : MethodName := ⟨RX5, "isLit", "(I)Z"⟩
def dkwX5_isLit_0 : List UInt8 := [42, 180, 0, 15, 27, 46, 158, 0, 7, 4, 167, 0, 4, 3, 172]
abbrev dktX5_isLit_0 : List UInt8 := dkwX5_isLit_0 ++ []
theorem dksX5_isLit_0 : cX5_isLit.data.toList.drop 0 = dktX5_isLit_0 := by decide +kernel
theorem dX5_isLit_0 : decode cX5_isLit 0 = .ok (.aload_n 0, 1) := dk_42 (dk_at dksX5_isLit_0 0 rfl rfl)
theorem dX5_isLit_1 : decode cX5_isLit 1 = .ok (.getfield 15, 3) := dk_180 0 15 (dk_at dksX5_isLit_0 1 rfl rfl)
theorem dX5_isLit_4 : decode cX5_isLit 4 = .ok (.iload_n 1, 1) := dk_27 (dk_at dksX5_isLit_0 4 rfl rfl)
theorem dX5_isLit_5 : decode cX5_isLit 5 = .ok (.iaload, 1) := dk_46 (dk_at dksX5_isLit_0 5 rfl rfl)
theorem dX5_isLit_6 : decode cX5_isLit 6 = .ok (.ifCond .le 7, 3) := dk_158 0 7 (dk_at dksX5_isLit_0 6 rfl rfl)
theorem dX5_isLit_9 : decode cX5_isLit 9 = .ok (.iconst 1, 1) := dk_4 (dk_at dksX5_isLit_0 9 rfl rfl)
theorem dX5_isLit_10 : decode cX5_isLit 10 = .ok (.goto 4, 3) := dk_167 0 4 (dk_at dksX5_isLit_0 10 rfl rfl)
theorem dX5_isLit_13 : decode cX5_isLit 13 = .ok (.iconst 0, 1) := dk_3 (dk_at dksX5_isLit_0 13 rfl rfl)
theorem dX5_isLit_14 : decode cX5_isLit 14 = .ok (.ireturn, 1) := dk_172 (dk_at dksX5_isLit_0 14 rfl rfl)
abbrev cX5_isMinding : ByteArray := prog_18_method_8_code
def yX5_isMinding : MethodName := ⟨RX5, "isMinding", "(I)Z"⟩
def dkwX5_isMinding_2 : List UInt8 := [172]
abbrev dktX5_isMinding_2 : List UInt8 := dkwX5_isMinding_2 ++ []
def dkwX5_isMinding_1 : List UInt8 := [27, 182, 0, 98, 42, 180, 0, 3, 180, 0, 40, 180, 0, 111, 42, 180, 0, 3, 180, 0, 80, 182, 0, 115]
abbrev dktX5_isMinding_1 : List UInt8 := dkwX5_isMinding_1 ++ dktX5_isMinding_2
def dkwX5_isMinding_0 : List UInt8 := [42, 27, 182, 0, 73, 153, 0, 16, 42, 180, 0, 3, 180, 0, 40, 180, 0, 111, 199, 0, 5, 3, 172, 42]
abbrev dktX5_isMinding_0 : List UInt8 := dkwX5_isMinding_0 ++ dktX5_isMinding_1
theorem dksX5_isMinding_0 : cX5_isMinding.data.toList.drop 0 = dktX5_isMinding_0 := by decide +kernel
theorem dksX5_isMinding_1 : cX5_isMinding.data.toList.drop 24 = dktX5_isMinding_1 := dk_seg dksX5_isMinding_0 24 rfl rfl
theorem dksX5_isMinding_2 : cX5_isMinding.data.toList.drop 48 = dktX5_isMinding_2 := dk_seg dksX5_isMinding_1 24 rfl rfl
theorem dX5_isMinding_0 : decode cX5_isMinding 0 = .ok (.aload_n 0, 1) := dk_42 (dk_at dksX5_isMinding_0 0 rfl rfl)
theorem dX5_isMinding_1 : decode cX5_isMinding 1 = .ok (.iload_n 1, 1) := dk_27 (dk_at dksX5_isMinding_0 1 rfl rfl)
theorem dX5_isMinding_2 : decode cX5_isMinding 2 = .ok (.invokevirtual 73, 3) := dk_182 0 73 (dk_at dksX5_isMinding_0 2 rfl rfl)
theorem dX5_isMinding_5 : decode cX5_isMinding 5 = .ok (.ifCond .eq 16, 3) := dk_153 0 16 (dk_at dksX5_isMinding_0 5 rfl rfl)
theorem dX5_isMinding_8 : decode cX5_isMinding 8 = .ok (.aload_n 0, 1) := dk_42 (dk_at dksX5_isMinding_0 8 rfl rfl)
theorem dX5_isMinding_9 : decode cX5_isMinding 9 = .ok (.getfield 3, 3) := dk_180 0 3 (dk_at dksX5_isMinding_0 9 rfl rfl)
theorem dX5_isMinding_12 : decode cX5_isMinding 12 = .ok (.getfield 40, 3) := dk_180 0 40 (dk_at dksX5_isMinding_0 12 rfl rfl)
theorem dX5_isMinding_15 : decode cX5_isMinding 15 = .ok (.getfield 111, 3) := dk_180 0 111 (dk_at dksX5_isMinding_0 15 rfl rfl)
theorem dX5_isMinding_18 : decode cX5_isMinding 18 = .ok (.ifnonnull 5, 3) := dk_199 0 5 (dk_at dksX5_isMinding_0 18 rfl rfl)
theorem dX5_isMinding_21 : decode cX5_isMinding 21 = .ok (.iconst 0, 1) := dk_3 (dk_at dksX5_isMinding_0 21 rfl rfl)
theorem dX5_isMinding_22 : decode cX5_isMinding 22 = .ok (.ireturn, 1) := dk_172 (dk_at dksX5_isMinding_0 22 rfl rfl)
theorem dX5_isMinding_23 : decode cX5_isMinding 23 = .ok (.aload_n 0, 1) := dk_42 (dk_at dksX5_isMinding_0 23 rfl rfl)
theorem dX5_isMinding_24 : decode cX5_isMinding 24 = .ok (.iload_n 1, 1) := dk_27 (dk_at dksX5_isMinding_1 0 rfl rfl)
theorem dX5_isMinding_25 : decode cX5_isMinding 25 = .ok (.invokevirtual 98, 3) := dk_182 0 98 (dk_at dksX5_isMinding_1 1 rfl rfl)
theorem dX5_isMinding_28 : decode cX5_isMinding 28 = .ok (.aload_n 0, 1) := dk_42 (dk_at dksX5_isMinding_1 4 rfl rfl)
theorem dX5_isMinding_29 : decode cX5_isMinding 29 = .ok (.getfield 3, 3) := dk_180 0 3 (dk_at dksX5_isMinding_1 5 rfl rfl)
theorem dX5_isMinding_32 : decode cX5_isMinding 32 = .ok (.getfield 40, 3) := dk_180 0 40 (dk_at dksX5_isMinding_1 8 rfl rfl)
theorem dX5_isMinding_35 : decode cX5_isMinding 35 = .ok (.getfield 111, 3) := dk_180 0 111 (dk_at dksX5_isMinding_1 11 rfl rfl)
theorem dX5_isMinding_38 : decode cX5_isMinding 38 = .ok (.aload_n 0, 1) := dk_42 (dk_at dksX5_isMinding_1 14 rfl rfl)
theorem dX5_isMinding_39 : decode cX5_isMinding 39 = .ok (.getfield 3, 3) := dk_180 0 3 (dk_at dksX5_isMinding_1 15 rfl rfl)
theorem dX5_isMinding_42 : decode cX5_isMinding 42 = .ok (.getfield 80, 3) := dk_180 0 80 (dk_at dksX5_isMinding_1 18 rfl rfl)
theorem dX5_isMinding_45 : decode cX5_isMinding 45 = .ok (.invokevirtual 115, 3) := dk_182 0 115 (dk_at dksX5_isMinding_1 21 rfl rfl)
theorem dX5_isMinding_48 : decode cX5_isMinding 48 = .ok (.ireturn, 1) := dk_172 (dk_at dksX5_isMinding_2 0 rfl rfl)
abbrev cX5_asks : ByteArray := prog_18_method_6_code
def yX5_asks : MethodName := ⟨RX5, "asks", "(I)V"⟩
def dkwX5_asks_3 : List UInt8 := [180, 0, 33, 133, 80, 177]
abbrev dktX5_asks_3 : List UInt8 := dkwX5_asks_3 ++ []
def dkwX5_asks_2 : List UInt8 := [180, 0, 84, 5, 42, 27, 182, 0, 90, 133, 80, 42, 180, 0, 3, 180, 0, 80, 180, 0, 84, 6, 42]
abbrev dktX5_asks_2 : List UInt8 := dkwX5_asks_2 ++ dktX5_asks_3
def dkwX5_asks_1 : List UInt8 := [180, 0, 80, 180, 0, 84, 4, 42, 180, 0, 25, 27, 46, 133, 80, 42, 180, 0, 3, 180, 0, 80]
abbrev dktX5_asks_1 : List UInt8 := dkwX5_asks_1 ++ dktX5_asks_2
def dkwX5_asks_0 : List UInt8 := [42, 180, 0, 3, 180, 0, 80, 180, 0, 84, 3, 42, 180, 0, 15, 27, 46, 133, 80, 42, 180, 0, 3]
abbrev dktX5_asks_0 : List UInt8 := dkwX5_asks_0 ++ dktX5_asks_1
theorem dksX5_asks_0 : cX5_asks.data.toList.drop 0 = dktX5_asks_0 := by decide +kernel
theorem dksX5_asks_1 : cX5_asks.data.toList.drop 23 = dktX5_asks_1 := dk_seg dksX5_asks_0 23 rfl rfl
theorem dksX5_asks_2 : cX5_asks.data.toList.drop 45 = dktX5_asks_2 := dk_seg dksX5_asks_1 22 rfl rfl
theorem dksX5_asks_3 : cX5_asks.data.toList.drop 68 = dktX5_asks_3 := dk_seg dksX5_asks_2 23 rfl rfl
theorem dX5_asks_0 : decode cX5_asks 0 = .ok (.aload_n 0, 1) := dk_42 (dk_at dksX5_asks_0 0 rfl rfl)
theorem dX5_asks_1 : decode cX5_asks 1 = .ok (.getfield 3, 3) := dk_180 0 3 (dk_at dksX5_asks_0 1 rfl rfl)
theorem dX5_asks_4 : decode cX5_asks 4 = .ok (.getfield 80, 3) := dk_180 0 80 (dk_at dksX5_asks_0 4 rfl rfl)
theorem dX5_asks_7 : decode cX5_asks 7 = .ok (.getfield 84, 3) := dk_180 0 84 (dk_at dksX5_asks_0 7 rfl rfl)
theorem dX5_asks_10 : decode cX5_asks 10 = .ok (.iconst 0, 1) := dk_3 (dk_at dksX5_asks_0 10 rfl rfl)
theorem dX5_asks_11 : decode cX5_asks 11 = .ok (.aload_n 0, 1) := dk_42 (dk_at dksX5_asks_0 11 rfl rfl)
theorem dX5_asks_12 : decode cX5_asks 12 = .ok (.getfield 15, 3) := dk_180 0 15 (dk_at dksX5_asks_0 12 rfl rfl)
theorem dX5_asks_15 : decode cX5_asks 15 = .ok (.iload_n 1, 1) := dk_27 (dk_at dksX5_asks_0 15 rfl rfl)
theorem dX5_asks_16 : decode cX5_asks 16 = .ok (.iaload, 1) := dk_46 (dk_at dksX5_asks_0 16 rfl rfl)
theorem dX5_asks_17 : decode cX5_asks 17 = .ok (.i2l, 1) := dk_133 (dk_at dksX5_asks_0 17 rfl rfl)
theorem dX5_asks_18 : decode cX5_asks 18 = .ok (.lastore, 1) := dk_80 (dk_at dksX5_asks_0 18 rfl rfl)
theorem dX5_asks_19 : decode cX5_asks 19 = .ok (.aload_n 0, 1) := dk_42 (dk_at dksX5_asks_0 19 rfl rfl)
theorem dX5_asks_20 : decode cX5_asks 20 = .ok (.getfield 3, 3) := dk_180 0 3 (dk_at dksX5_asks_0 20 rfl rfl)
theorem dX5_asks_23 : decode cX5_asks 23 = .ok (.getfield 80, 3) := dk_180 0 80 (dk_at dksX5_asks_1 0 rfl rfl)
theorem dX5_asks_26 : decode cX5_asks 26 = .ok (.getfield 84, 3) := dk_180 0 84 (dk_at dksX5_asks_1 3 rfl rfl)
theorem dX5_asks_29 : decode cX5_asks 29 = .ok (.iconst 1, 1) := dk_4 (dk_at dksX5_asks_1 6 rfl rfl)
theorem dX5_asks_30 : decode cX5_asks 30 = .ok (.aload_n 0, 1) := dk_42 (dk_at dksX5_asks_1 7 rfl rfl)
theorem dX5_asks_31 : decode cX5_asks 31 = .ok (.getfield 25, 3) := dk_180 0 25 (dk_at dksX5_asks_1 8 rfl rfl)
theorem dX5_asks_34 : decode cX5_asks 34 = .ok (.iload_n 1, 1) := dk_27 (dk_at dksX5_asks_1 11 rfl rfl)
theorem dX5_asks_35 : decode cX5_asks 35 = .ok (.iaload, 1) := dk_46 (dk_at dksX5_asks_1 12 rfl rfl)
theorem dX5_asks_36 : decode cX5_asks 36 = .ok (.i2l, 1) := dk_133 (dk_at dksX5_asks_1 13 rfl rfl)
theorem dX5_asks_37 : decode cX5_asks 37 = .ok (.lastore, 1) := dk_80 (dk_at dksX5_asks_1 14 rfl rfl)
theorem dX5_asks_38 : decode cX5_asks 38 = .ok (.aload_n 0, 1) := dk_42 (dk_at dksX5_asks_1 15 rfl rfl)
theorem dX5_asks_39 : decode cX5_asks 39 = .ok (.getfield 3, 3) := dk_180 0 3 (dk_at dksX5_asks_1 16 rfl rfl)
theorem dX5_asks_42 : decode cX5_asks 42 = .ok (.getfield 80, 3) := dk_180 0 80 (dk_at dksX5_asks_1 19 rfl rfl)
theorem dX5_asks_45 : decode cX5_asks 45 = .ok (.getfield 84, 3) := dk_180 0 84 (dk_at dksX5_asks_2 0 rfl rfl)
theorem dX5_asks_48 : decode cX5_asks 48 = .ok (.iconst 2, 1) := dk_5 (dk_at dksX5_asks_2 3 rfl rfl)
theorem dX5_asks_49 : decode cX5_asks 49 = .ok (.aload_n 0, 1) := dk_42 (dk_at dksX5_asks_2 4 rfl rfl)
theorem dX5_asks_50 : decode cX5_asks 50 = .ok (.iload_n 1, 1) := dk_27 (dk_at dksX5_asks_2 5 rfl rfl)
theorem dX5_asks_51 : decode cX5_asks 51 = .ok (.invokevirtual 90, 3) := dk_182 0 90 (dk_at dksX5_asks_2 6 rfl rfl)
theorem dX5_asks_54 : decode cX5_asks 54 = .ok (.i2l, 1) := dk_133 (dk_at dksX5_asks_2 9 rfl rfl)
theorem dX5_asks_55 : decode cX5_asks 55 = .ok (.lastore, 1) := dk_80 (dk_at dksX5_asks_2 10 rfl rfl)
theorem dX5_asks_56 : decode cX5_asks 56 = .ok (.aload_n 0, 1) := dk_42 (dk_at dksX5_asks_2 11 rfl rfl)
theorem dX5_asks_57 : decode cX5_asks 57 = .ok (.getfield 3, 3) := dk_180 0 3 (dk_at dksX5_asks_2 12 rfl rfl)
theorem dX5_asks_60 : decode cX5_asks 60 = .ok (.getfield 80, 3) := dk_180 0 80 (dk_at dksX5_asks_2 15 rfl rfl)
theorem dX5_asks_63 : decode cX5_asks 63 = .ok (.getfield 84, 3) := dk_180 0 84 (dk_at dksX5_asks_2 18 rfl rfl)
theorem dX5_asks_66 : decode cX5_asks 66 = .ok (.iconst 3, 1) := dk_6 (dk_at dksX5_asks_2 21 rfl rfl)
theorem dX5_asks_67 : decode cX5_asks 67 = .ok (.aload_n 0, 1) := dk_42 (dk_at dksX5_asks_2 22 rfl rfl)
theorem dX5_asks_68 : decode cX5_asks 68 = .ok (.getfield 33, 3) := dk_180 0 33 (dk_at dksX5_asks_3 0 rfl rfl)
theorem dX5_asks_71 : decode cX5_asks 71 = .ok (.i2l, 1) := dk_133 (dk_at dksX5_asks_3 3 rfl rfl)
theorem dX5_asks_72 : decode cX5_asks 72 = .ok (.lastore, 1) := dk_80 (dk_at dksX5_asks_3 4 rfl rfl)
theorem dX5_asks_73 : decode cX5_asks 73 = .ok (.return_, 1) := dk_177 (dk_at dksX5_asks_3 5 rfl rfl)
abbrev cX5_nearby : ByteArray := prog_18_method_5_code
def yX5_nearby : MethodName := ⟨RX5, "nearby", "(I)I"⟩
def dkwX5_nearby_2 : List UInt8 := [182, 0, 62, 180, 0, 77, 160, 0, 7, 4, 167, 0, 4, 3, 96, 61, 132, 3, 1, 167, 255, 196, 28, 172]
abbrev dktX5_nearby_2 : List UInt8 := dkwX5_nearby_2 ++ []
def dkwX5_nearby_1 : List UInt8 := [182, 0, 73, 153, 0, 32, 42, 180, 0, 3, 29, 182, 0, 62, 180, 0, 77, 42, 180, 0, 3, 27]
abbrev dktX5_nearby_1 : List UInt8 := dkwX5_nearby_1 ++ dktX5_nearby_2
def dkwX5_nearby_0 : List UInt8 := [3, 61, 3, 62, 29, 42, 180, 0, 3, 182, 0, 59, 162, 0, 55, 28, 29, 27, 159, 0, 40, 42, 29]
abbrev dktX5_nearby_0 : List UInt8 := dkwX5_nearby_0 ++ dktX5_nearby_1
theorem dksX5_nearby_0 : cX5_nearby.data.toList.drop 0 = dktX5_nearby_0 := by decide +kernel
theorem dksX5_nearby_1 : cX5_nearby.data.toList.drop 23 = dktX5_nearby_1 := dk_seg dksX5_nearby_0 23 rfl rfl
theorem dksX5_nearby_2 : cX5_nearby.data.toList.drop 45 = dktX5_nearby_2 := dk_seg dksX5_nearby_1 22 rfl rfl
theorem dX5_nearby_0 : decode cX5_nearby 0 = .ok (.iconst 0, 1) := dk_3 (dk_at dksX5_nearby_0 0 rfl rfl)
theorem dX5_nearby_1 : decode cX5_nearby 1 = .ok (.istore_n 2, 1) := dk_61 (dk_at dksX5_nearby_0 1 rfl rfl)
theorem dX5_nearby_2 : decode cX5_nearby 2 = .ok (.iconst 0, 1) := dk_3 (dk_at dksX5_nearby_0 2 rfl rfl)
theorem dX5_nearby_3 : decode cX5_nearby 3 = .ok (.istore_n 3, 1) := dk_62 (dk_at dksX5_nearby_0 3 rfl rfl)
theorem dX5_nearby_4 : decode cX5_nearby 4 = .ok (.iload_n 3, 1) := dk_29 (dk_at dksX5_nearby_0 4 rfl rfl)
theorem dX5_nearby_5 : decode cX5_nearby 5 = .ok (.aload_n 0, 1) := dk_42 (dk_at dksX5_nearby_0 5 rfl rfl)
theorem dX5_nearby_6 : decode cX5_nearby 6 = .ok (.getfield 3, 3) := dk_180 0 3 (dk_at dksX5_nearby_0 6 rfl rfl)
theorem dX5_nearby_9 : decode cX5_nearby 9 = .ok (.invokevirtual 59, 3) := dk_182 0 59 (dk_at dksX5_nearby_0 9 rfl rfl)
theorem dX5_nearby_12 : decode cX5_nearby 12 = .ok (.if_icmp .ge 55, 3) := dk_162 0 55 (dk_at dksX5_nearby_0 12 rfl rfl)
theorem dX5_nearby_15 : decode cX5_nearby 15 = .ok (.iload_n 2, 1) := dk_28 (dk_at dksX5_nearby_0 15 rfl rfl)
theorem dX5_nearby_16 : decode cX5_nearby 16 = .ok (.iload_n 3, 1) := dk_29 (dk_at dksX5_nearby_0 16 rfl rfl)
theorem dX5_nearby_17 : decode cX5_nearby 17 = .ok (.iload_n 1, 1) := dk_27 (dk_at dksX5_nearby_0 17 rfl rfl)
theorem dX5_nearby_18 : decode cX5_nearby 18 = .ok (.if_icmp .eq 40, 3) := dk_159 0 40 (dk_at dksX5_nearby_0 18 rfl rfl)
theorem dX5_nearby_21 : decode cX5_nearby 21 = .ok (.aload_n 0, 1) := dk_42 (dk_at dksX5_nearby_0 21 rfl rfl)
theorem dX5_nearby_22 : decode cX5_nearby 22 = .ok (.iload_n 3, 1) := dk_29 (dk_at dksX5_nearby_0 22 rfl rfl)
theorem dX5_nearby_23 : decode cX5_nearby 23 = .ok (.invokevirtual 73, 3) := dk_182 0 73 (dk_at dksX5_nearby_1 0 rfl rfl)
theorem dX5_nearby_26 : decode cX5_nearby 26 = .ok (.ifCond .eq 32, 3) := dk_153 0 32 (dk_at dksX5_nearby_1 3 rfl rfl)
theorem dX5_nearby_29 : decode cX5_nearby 29 = .ok (.aload_n 0, 1) := dk_42 (dk_at dksX5_nearby_1 6 rfl rfl)
theorem dX5_nearby_30 : decode cX5_nearby 30 = .ok (.getfield 3, 3) := dk_180 0 3 (dk_at dksX5_nearby_1 7 rfl rfl)
theorem dX5_nearby_33 : decode cX5_nearby 33 = .ok (.iload_n 3, 1) := dk_29 (dk_at dksX5_nearby_1 10 rfl rfl)
theorem dX5_nearby_34 : decode cX5_nearby 34 = .ok (.invokevirtual 62, 3) := dk_182 0 62 (dk_at dksX5_nearby_1 11 rfl rfl)
theorem dX5_nearby_37 : decode cX5_nearby 37 = .ok (.getfield 77, 3) := dk_180 0 77 (dk_at dksX5_nearby_1 14 rfl rfl)
theorem dX5_nearby_40 : decode cX5_nearby 40 = .ok (.aload_n 0, 1) := dk_42 (dk_at dksX5_nearby_1 17 rfl rfl)
theorem dX5_nearby_41 : decode cX5_nearby 41 = .ok (.getfield 3, 3) := dk_180 0 3 (dk_at dksX5_nearby_1 18 rfl rfl)
theorem dX5_nearby_44 : decode cX5_nearby 44 = .ok (.iload_n 1, 1) := dk_27 (dk_at dksX5_nearby_1 21 rfl rfl)
theorem dX5_nearby_45 : decode cX5_nearby 45 = .ok (.invokevirtual 62, 3) := dk_182 0 62 (dk_at dksX5_nearby_2 0 rfl rfl)
theorem dX5_nearby_48 : decode cX5_nearby 48 = .ok (.getfield 77, 3) := dk_180 0 77 (dk_at dksX5_nearby_2 3 rfl rfl)
theorem dX5_nearby_51 : decode cX5_nearby 51 = .ok (.if_icmp .ne 7, 3) := dk_160 0 7 (dk_at dksX5_nearby_2 6 rfl rfl)
theorem dX5_nearby_54 : decode cX5_nearby 54 = .ok (.iconst 1, 1) := dk_4 (dk_at dksX5_nearby_2 9 rfl rfl)
theorem dX5_nearby_55 : decode cX5_nearby 55 = .ok (.goto 4, 3) := dk_167 0 4 (dk_at dksX5_nearby_2 10 rfl rfl)
theorem dX5_nearby_58 : decode cX5_nearby 58 = .ok (.iconst 0, 1) := dk_3 (dk_at dksX5_nearby_2 13 rfl rfl)
theorem dX5_nearby_59 : decode cX5_nearby 59 = .ok (.iadd, 1) := dk_96 (dk_at dksX5_nearby_2 14 rfl rfl)
theorem dX5_nearby_60 : decode cX5_nearby 60 = .ok (.istore_n 2, 1) := dk_61 (dk_at dksX5_nearby_2 15 rfl rfl)
theorem dX5_nearby_61 : decode cX5_nearby 61 = .ok (.iinc 3 1, 3) := dk_132 3 1 (dk_at dksX5_nearby_2 16 rfl rfl)
theorem dX5_nearby_64 : decode cX5_nearby 64 = .ok (.goto (-60), 3) := dk_167 255 196 (dk_at dksX5_nearby_2 19 rfl rfl)
theorem dX5_nearby_67 : decode cX5_nearby 67 = .ok (.iload_n 2, 1) := dk_28 (dk_at dksX5_nearby_2 22 rfl rfl)
theorem dX5_nearby_68 : decode cX5_nearby 68 = .ok (.ireturn, 1) := dk_172 (dk_at dksX5_nearby_2 23 rfl rfl)
abbrev cX5_along : ByteArray := prog_18_method_13_code
def yX5_along : MethodName := ⟨RX5, "along", "(I)I"⟩
def dkwX5_along_4 : List UInt8 := [167, 0, 4, 3, 62, 167, 255, 168, 28, 4, 27, 120, 2, 130, 126, 172]
abbrev dktX5_along_4 : List UInt8 := dkwX5_along_4 ++ []
def dkwX5_along_3 : List UInt8 := [182, 0, 144, 180, 0, 153, 120, 128, 61, 132, 5, 1, 167, 255, 193, 28, 21, 4, 159, 0, 7, 4]
abbrev dktX5_along_3 : List UInt8 := dkwX5_along_3 ++ dktX5_along_4
def dkwX5_along_2 : List UInt8 := [21, 5, 182, 0, 144, 180, 0, 148, 184, 0, 140, 153, 0, 20, 28, 4, 42, 180, 0, 3, 21, 5]
abbrev dktX5_along_2 : List UInt8 := dkwX5_along_2 ++ dktX5_along_3
def dkwX5_along_1 : List UInt8 := [182, 0, 52, 162, 0, 57, 42, 180, 0, 56, 21, 5, 184, 0, 140, 153, 0, 39, 28, 42, 180, 0, 3]
abbrev dktX5_along_1 : List UInt8 := dkwX5_along_1 ++ dktX5_along_2
def dkwX5_along_0 : List UInt8 := [4, 27, 120, 61, 4, 62, 29, 153, 0, 90, 28, 54, 4, 3, 54, 5, 21, 5, 42, 180, 0, 3]
abbrev dktX5_along_0 : List UInt8 := dkwX5_along_0 ++ dktX5_along_1
theorem dksX5_along_0 : cX5_along.data.toList.drop 0 = dktX5_along_0 := by decide +kernel
theorem dksX5_along_1 : cX5_along.data.toList.drop 22 = dktX5_along_1 := dk_seg dksX5_along_0 22 rfl rfl
theorem dksX5_along_2 : cX5_along.data.toList.drop 45 = dktX5_along_2 := dk_seg dksX5_along_1 23 rfl rfl
theorem dksX5_along_3 : cX5_along.data.toList.drop 67 = dktX5_along_3 := dk_seg dksX5_along_2 22 rfl rfl
theorem dksX5_along_4 : cX5_along.data.toList.drop 89 = dktX5_along_4 := dk_seg dksX5_along_3 22 rfl rfl
theorem dX5_along_0 : decode cX5_along 0 = .ok (.iconst 1, 1) := dk_4 (dk_at dksX5_along_0 0 rfl rfl)
theorem dX5_along_1 : decode cX5_along 1 = .ok (.iload_n 1, 1) := dk_27 (dk_at dksX5_along_0 1 rfl rfl)
theorem dX5_along_2 : decode cX5_along 2 = .ok (.ishl, 1) := dk_120 (dk_at dksX5_along_0 2 rfl rfl)
theorem dX5_along_3 : decode cX5_along 3 = .ok (.istore_n 2, 1) := dk_61 (dk_at dksX5_along_0 3 rfl rfl)
theorem dX5_along_4 : decode cX5_along 4 = .ok (.iconst 1, 1) := dk_4 (dk_at dksX5_along_0 4 rfl rfl)
theorem dX5_along_5 : decode cX5_along 5 = .ok (.istore_n 3, 1) := dk_62 (dk_at dksX5_along_0 5 rfl rfl)
theorem dX5_along_6 : decode cX5_along 6 = .ok (.iload_n 3, 1) := dk_29 (dk_at dksX5_along_0 6 rfl rfl)
theorem dX5_along_7 : decode cX5_along 7 = .ok (.ifCond .eq 90, 3) := dk_153 0 90 (dk_at dksX5_along_0 7 rfl rfl)
theorem dX5_along_10 : decode cX5_along 10 = .ok (.iload_n 2, 1) := dk_28 (dk_at dksX5_along_0 10 rfl rfl)
theorem dX5_along_11 : decode cX5_along 11 = .ok (.istore 4, 2) := dk_54 4 (dk_at dksX5_along_0 11 rfl rfl)
theorem dX5_along_13 : decode cX5_along 13 = .ok (.iconst 0, 1) := dk_3 (dk_at dksX5_along_0 13 rfl rfl)
theorem dX5_along_14 : decode cX5_along 14 = .ok (.istore 5, 2) := dk_54 5 (dk_at dksX5_along_0 14 rfl rfl)
theorem dX5_along_16 : decode cX5_along 16 = .ok (.iload 5, 2) := dk_21 5 (dk_at dksX5_along_0 16 rfl rfl)
theorem dX5_along_18 : decode cX5_along 18 = .ok (.aload_n 0, 1) := dk_42 (dk_at dksX5_along_0 18 rfl rfl)
theorem dX5_along_19 : decode cX5_along 19 = .ok (.getfield 3, 3) := dk_180 0 3 (dk_at dksX5_along_0 19 rfl rfl)
theorem dX5_along_22 : decode cX5_along 22 = .ok (.invokevirtual 52, 3) := dk_182 0 52 (dk_at dksX5_along_1 0 rfl rfl)
theorem dX5_along_25 : decode cX5_along 25 = .ok (.if_icmp .ge 57, 3) := dk_162 0 57 (dk_at dksX5_along_1 3 rfl rfl)
theorem dX5_along_28 : decode cX5_along 28 = .ok (.aload_n 0, 1) := dk_42 (dk_at dksX5_along_1 6 rfl rfl)
theorem dX5_along_29 : decode cX5_along 29 = .ok (.getfield 56, 3) := dk_180 0 56 (dk_at dksX5_along_1 7 rfl rfl)
theorem dX5_along_32 : decode cX5_along 32 = .ok (.iload 5, 2) := dk_21 5 (dk_at dksX5_along_1 10 rfl rfl)
theorem dX5_along_34 : decode cX5_along 34 = .ok (.invokestatic 140, 3) := dk_184 0 140 (dk_at dksX5_along_1 12 rfl rfl)
theorem dX5_along_37 : decode cX5_along 37 = .ok (.ifCond .eq 39, 3) := dk_153 0 39 (dk_at dksX5_along_1 15 rfl rfl)
theorem dX5_along_40 : decode cX5_along 40 = .ok (.iload_n 2, 1) := dk_28 (dk_at dksX5_along_1 18 rfl rfl)
theorem dX5_along_41 : decode cX5_along 41 = .ok (.aload_n 0, 1) := dk_42 (dk_at dksX5_along_1 19 rfl rfl)
theorem dX5_along_42 : decode cX5_along 42 = .ok (.getfield 3, 3) := dk_180 0 3 (dk_at dksX5_along_1 20 rfl rfl)
theorem dX5_along_45 : decode cX5_along 45 = .ok (.iload 5, 2) := dk_21 5 (dk_at dksX5_along_2 0 rfl rfl)
theorem dX5_along_47 : decode cX5_along 47 = .ok (.invokevirtual 144, 3) := dk_182 0 144 (dk_at dksX5_along_2 2 rfl rfl)
theorem dX5_along_50 : decode cX5_along 50 = .ok (.getfield 148, 3) := dk_180 0 148 (dk_at dksX5_along_2 5 rfl rfl)
theorem dX5_along_53 : decode cX5_along 53 = .ok (.invokestatic 140, 3) := dk_184 0 140 (dk_at dksX5_along_2 8 rfl rfl)
theorem dX5_along_56 : decode cX5_along 56 = .ok (.ifCond .eq 20, 3) := dk_153 0 20 (dk_at dksX5_along_2 11 rfl rfl)
theorem dX5_along_59 : decode cX5_along 59 = .ok (.iload_n 2, 1) := dk_28 (dk_at dksX5_along_2 14 rfl rfl)
theorem dX5_along_60 : decode cX5_along 60 = .ok (.iconst 1, 1) := dk_4 (dk_at dksX5_along_2 15 rfl rfl)
theorem dX5_along_61 : decode cX5_along 61 = .ok (.aload_n 0, 1) := dk_42 (dk_at dksX5_along_2 16 rfl rfl)
theorem dX5_along_62 : decode cX5_along 62 = .ok (.getfield 3, 3) := dk_180 0 3 (dk_at dksX5_along_2 17 rfl rfl)
theorem dX5_along_65 : decode cX5_along 65 = .ok (.iload 5, 2) := dk_21 5 (dk_at dksX5_along_2 20 rfl rfl)
theorem dX5_along_67 : decode cX5_along 67 = .ok (.invokevirtual 144, 3) := dk_182 0 144 (dk_at dksX5_along_3 0 rfl rfl)
theorem dX5_along_70 : decode cX5_along 70 = .ok (.getfield 153, 3) := dk_180 0 153 (dk_at dksX5_along_3 3 rfl rfl)
theorem dX5_along_73 : decode cX5_along 73 = .ok (.ishl, 1) := dk_120 (dk_at dksX5_along_3 6 rfl rfl)
theorem dX5_along_74 : decode cX5_along 74 = .ok (.ior, 1) := dk_128 (dk_at dksX5_along_3 7 rfl rfl)
theorem dX5_along_75 : decode cX5_along 75 = .ok (.istore_n 2, 1) := dk_61 (dk_at dksX5_along_3 8 rfl rfl)
theorem dX5_along_76 : decode cX5_along 76 = .ok (.iinc 5 1, 3) := dk_132 5 1 (dk_at dksX5_along_3 9 rfl rfl)
theorem dX5_along_79 : decode cX5_along 79 = .ok (.goto (-63), 3) := dk_167 255 193 (dk_at dksX5_along_3 12 rfl rfl)
theorem dX5_along_82 : decode cX5_along 82 = .ok (.iload_n 2, 1) := dk_28 (dk_at dksX5_along_3 15 rfl rfl)
theorem dX5_along_83 : decode cX5_along 83 = .ok (.iload 4, 2) := dk_21 4 (dk_at dksX5_along_3 16 rfl rfl)
theorem dX5_along_85 : decode cX5_along 85 = .ok (.if_icmp .eq 7, 3) := dk_159 0 7 (dk_at dksX5_along_3 18 rfl rfl)
theorem dX5_along_88 : decode cX5_along 88 = .ok (.iconst 1, 1) := dk_4 (dk_at dksX5_along_3 21 rfl rfl)
theorem dX5_along_89 : decode cX5_along 89 = .ok (.goto 4, 3) := dk_167 0 4 (dk_at dksX5_along_4 0 rfl rfl)
theorem dX5_along_92 : decode cX5_along 92 = .ok (.iconst 0, 1) := dk_3 (dk_at dksX5_along_4 3 rfl rfl)
theorem dX5_along_93 : decode cX5_along 93 = .ok (.istore_n 3, 1) := dk_62 (dk_at dksX5_along_4 4 rfl rfl)
theorem dX5_along_94 : decode cX5_along 94 = .ok (.goto (-88), 3) := dk_167 255 168 (dk_at dksX5_along_4 5 rfl rfl)
theorem dX5_along_97 : decode cX5_along 97 = .ok (.iload_n 2, 1) := dk_28 (dk_at dksX5_along_4 8 rfl rfl)
theorem dX5_along_98 : decode cX5_along 98 = .ok (.iconst 1, 1) := dk_4 (dk_at dksX5_along_4 9 rfl rfl)
theorem dX5_along_99 : decode cX5_along 99 = .ok (.iload_n 1, 1) := dk_27 (dk_at dksX5_along_4 10 rfl rfl)
theorem dX5_along_100 : decode cX5_along 100 = .ok (.ishl, 1) := dk_120 (dk_at dksX5_along_4 11 rfl rfl)
theorem dX5_along_101 : decode cX5_along 101 = .ok (.iconst (-1), 1) := dk_2 (dk_at dksX5_along_4 12 rfl rfl)
theorem dX5_along_102 : decode cX5_along 102 = .ok (.ixor, 1) := dk_130 (dk_at dksX5_along_4 13 rfl rfl)
theorem dX5_along_103 : decode cX5_along 103 = .ok (.iand, 1) := dk_126 (dk_at dksX5_along_4 14 rfl rfl)
theorem dX5_along_104 : decode cX5_along 104 = .ok (.ireturn, 1) := dk_172 (dk_at dksX5_along_4 15 rfl rfl)
abbrev cX5_copy : ByteArray := prog_18_method_3_code
def yX5_copy : MethodName := ⟨RX5, "copy", "(LFirstSnuffer$State;)LFirstSnuffer$State;"⟩
def dkwX5_copy_5 : List UInt8 := [167, 255, 232, 132, 2, 1, 167, 255, 216, 42, 176]
abbrev dktX5_copy_5 : List UInt8 := dkwX5_copy_5 ++ []
def dkwX5_copy_4 : List UInt8 := [29, 6, 162, 0, 25, 42, 180, 0, 30, 28, 50, 29, 43, 180, 0, 30, 28, 50, 29, 46, 79, 132, 3, 1]
abbrev dktX5_copy_4 : List UInt8 := dkwX5_copy_4 ++ dktX5_copy_5
def dkwX5_copy_3 : List UInt8 := [180, 0, 25, 28, 46, 79, 132, 2, 1, 167, 255, 211, 3, 61, 28, 42, 180, 0, 37, 162, 0, 38, 3, 62]
abbrev dktX5_copy_3 : List UInt8 := dkwX5_copy_3 ++ dktX5_copy_4
def dkwX5_copy_2 : List UInt8 := [180, 0, 15, 28, 46, 79, 42, 180, 0, 22, 28, 43, 180, 0, 22, 28, 46, 79, 42, 180, 0, 25, 28, 43]
abbrev dktX5_copy_2 : List UInt8 := dkwX5_copy_2 ++ dktX5_copy_3
def dkwX5_copy_1 : List UInt8 := [42, 43, 180, 0, 56, 181, 0, 56, 3, 61, 28, 16, 8, 162, 0, 45, 42, 180, 0, 15, 28, 43]
abbrev dktX5_copy_1 : List UInt8 := dkwX5_copy_1 ++ dktX5_copy_2
def dkwX5_copy_0 : List UInt8 := [42, 43, 180, 0, 33, 181, 0, 33, 42, 43, 180, 0, 37, 181, 0, 37, 42, 43, 180, 0, 49, 181, 0, 49]
abbrev dktX5_copy_0 : List UInt8 := dkwX5_copy_0 ++ dktX5_copy_1
theorem dksX5_copy_0 : cX5_copy.data.toList.drop 0 = dktX5_copy_0 := by decide +kernel
theorem dksX5_copy_1 : cX5_copy.data.toList.drop 24 = dktX5_copy_1 := dk_seg dksX5_copy_0 24 rfl rfl
theorem dksX5_copy_2 : cX5_copy.data.toList.drop 46 = dktX5_copy_2 := dk_seg dksX5_copy_1 22 rfl rfl
theorem dksX5_copy_3 : cX5_copy.data.toList.drop 70 = dktX5_copy_3 := dk_seg dksX5_copy_2 24 rfl rfl
theorem dksX5_copy_4 : cX5_copy.data.toList.drop 94 = dktX5_copy_4 := dk_seg dksX5_copy_3 24 rfl rfl
theorem dksX5_copy_5 : cX5_copy.data.toList.drop 118 = dktX5_copy_5 := dk_seg dksX5_copy_4 24 rfl rfl
theorem dX5_copy_0 : decode cX5_copy 0 = .ok (.aload_n 0, 1) := dk_42 (dk_at dksX5_copy_0 0 rfl rfl)
theorem dX5_copy_1 : decode cX5_copy 1 = .ok (.aload_n 1, 1) := dk_43 (dk_at dksX5_copy_0 1 rfl rfl)
theorem dX5_copy_2 : decode cX5_copy 2 = .ok (.getfield 33, 3) := dk_180 0 33 (dk_at dksX5_copy_0 2 rfl rfl)
theorem dX5_copy_5 : decode cX5_copy 5 = .ok (.putfield 33, 3) := dk_181 0 33 (dk_at dksX5_copy_0 5 rfl rfl)
theorem dX5_copy_8 : decode cX5_copy 8 = .ok (.aload_n 0, 1) := dk_42 (dk_at dksX5_copy_0 8 rfl rfl)
theorem dX5_copy_9 : decode cX5_copy 9 = .ok (.aload_n 1, 1) := dk_43 (dk_at dksX5_copy_0 9 rfl rfl)
theorem dX5_copy_10 : decode cX5_copy 10 = .ok (.getfield 37, 3) := dk_180 0 37 (dk_at dksX5_copy_0 10 rfl rfl)
theorem dX5_copy_13 : decode cX5_copy 13 = .ok (.putfield 37, 3) := dk_181 0 37 (dk_at dksX5_copy_0 13 rfl rfl)
theorem dX5_copy_16 : decode cX5_copy 16 = .ok (.aload_n 0, 1) := dk_42 (dk_at dksX5_copy_0 16 rfl rfl)
theorem dX5_copy_17 : decode cX5_copy 17 = .ok (.aload_n 1, 1) := dk_43 (dk_at dksX5_copy_0 17 rfl rfl)
theorem dX5_copy_18 : decode cX5_copy 18 = .ok (.getfield 49, 3) := dk_180 0 49 (dk_at dksX5_copy_0 18 rfl rfl)
theorem dX5_copy_21 : decode cX5_copy 21 = .ok (.putfield 49, 3) := dk_181 0 49 (dk_at dksX5_copy_0 21 rfl rfl)
theorem dX5_copy_24 : decode cX5_copy 24 = .ok (.aload_n 0, 1) := dk_42 (dk_at dksX5_copy_1 0 rfl rfl)
theorem dX5_copy_25 : decode cX5_copy 25 = .ok (.aload_n 1, 1) := dk_43 (dk_at dksX5_copy_1 1 rfl rfl)
theorem dX5_copy_26 : decode cX5_copy 26 = .ok (.getfield 56, 3) := dk_180 0 56 (dk_at dksX5_copy_1 2 rfl rfl)
theorem dX5_copy_29 : decode cX5_copy 29 = .ok (.putfield 56, 3) := dk_181 0 56 (dk_at dksX5_copy_1 5 rfl rfl)
theorem dX5_copy_32 : decode cX5_copy 32 = .ok (.iconst 0, 1) := dk_3 (dk_at dksX5_copy_1 8 rfl rfl)
theorem dX5_copy_33 : decode cX5_copy 33 = .ok (.istore_n 2, 1) := dk_61 (dk_at dksX5_copy_1 9 rfl rfl)
theorem dX5_copy_34 : decode cX5_copy 34 = .ok (.iload_n 2, 1) := dk_28 (dk_at dksX5_copy_1 10 rfl rfl)
theorem dX5_copy_35 : decode cX5_copy 35 = .ok (.bipush 8, 2) := dk_16 8 (dk_at dksX5_copy_1 11 rfl rfl)
theorem dX5_copy_37 : decode cX5_copy 37 = .ok (.if_icmp .ge 45, 3) := dk_162 0 45 (dk_at dksX5_copy_1 13 rfl rfl)
theorem dX5_copy_40 : decode cX5_copy 40 = .ok (.aload_n 0, 1) := dk_42 (dk_at dksX5_copy_1 16 rfl rfl)
theorem dX5_copy_41 : decode cX5_copy 41 = .ok (.getfield 15, 3) := dk_180 0 15 (dk_at dksX5_copy_1 17 rfl rfl)
theorem dX5_copy_44 : decode cX5_copy 44 = .ok (.iload_n 2, 1) := dk_28 (dk_at dksX5_copy_1 20 rfl rfl)
theorem dX5_copy_45 : decode cX5_copy 45 = .ok (.aload_n 1, 1) := dk_43 (dk_at dksX5_copy_1 21 rfl rfl)
theorem dX5_copy_46 : decode cX5_copy 46 = .ok (.getfield 15, 3) := dk_180 0 15 (dk_at dksX5_copy_2 0 rfl rfl)
theorem dX5_copy_49 : decode cX5_copy 49 = .ok (.iload_n 2, 1) := dk_28 (dk_at dksX5_copy_2 3 rfl rfl)
theorem dX5_copy_50 : decode cX5_copy 50 = .ok (.iaload, 1) := dk_46 (dk_at dksX5_copy_2 4 rfl rfl)
theorem dX5_copy_51 : decode cX5_copy 51 = .ok (.iastore, 1) := dk_79 (dk_at dksX5_copy_2 5 rfl rfl)
theorem dX5_copy_52 : decode cX5_copy 52 = .ok (.aload_n 0, 1) := dk_42 (dk_at dksX5_copy_2 6 rfl rfl)
theorem dX5_copy_53 : decode cX5_copy 53 = .ok (.getfield 22, 3) := dk_180 0 22 (dk_at dksX5_copy_2 7 rfl rfl)
theorem dX5_copy_56 : decode cX5_copy 56 = .ok (.iload_n 2, 1) := dk_28 (dk_at dksX5_copy_2 10 rfl rfl)
theorem dX5_copy_57 : decode cX5_copy 57 = .ok (.aload_n 1, 1) := dk_43 (dk_at dksX5_copy_2 11 rfl rfl)
theorem dX5_copy_58 : decode cX5_copy 58 = .ok (.getfield 22, 3) := dk_180 0 22 (dk_at dksX5_copy_2 12 rfl rfl)
theorem dX5_copy_61 : decode cX5_copy 61 = .ok (.iload_n 2, 1) := dk_28 (dk_at dksX5_copy_2 15 rfl rfl)
theorem dX5_copy_62 : decode cX5_copy 62 = .ok (.iaload, 1) := dk_46 (dk_at dksX5_copy_2 16 rfl rfl)
theorem dX5_copy_63 : decode cX5_copy 63 = .ok (.iastore, 1) := dk_79 (dk_at dksX5_copy_2 17 rfl rfl)
theorem dX5_copy_64 : decode cX5_copy 64 = .ok (.aload_n 0, 1) := dk_42 (dk_at dksX5_copy_2 18 rfl rfl)
theorem dX5_copy_65 : decode cX5_copy 65 = .ok (.getfield 25, 3) := dk_180 0 25 (dk_at dksX5_copy_2 19 rfl rfl)
theorem dX5_copy_68 : decode cX5_copy 68 = .ok (.iload_n 2, 1) := dk_28 (dk_at dksX5_copy_2 22 rfl rfl)
theorem dX5_copy_69 : decode cX5_copy 69 = .ok (.aload_n 1, 1) := dk_43 (dk_at dksX5_copy_2 23 rfl rfl)
theorem dX5_copy_70 : decode cX5_copy 70 = .ok (.getfield 25, 3) := dk_180 0 25 (dk_at dksX5_copy_3 0 rfl rfl)
theorem dX5_copy_73 : decode cX5_copy 73 = .ok (.iload_n 2, 1) := dk_28 (dk_at dksX5_copy_3 3 rfl rfl)
theorem dX5_copy_74 : decode cX5_copy 74 = .ok (.iaload, 1) := dk_46 (dk_at dksX5_copy_3 4 rfl rfl)
theorem dX5_copy_75 : decode cX5_copy 75 = .ok (.iastore, 1) := dk_79 (dk_at dksX5_copy_3 5 rfl rfl)
theorem dX5_copy_76 : decode cX5_copy 76 = .ok (.iinc 2 1, 3) := dk_132 2 1 (dk_at dksX5_copy_3 6 rfl rfl)
theorem dX5_copy_79 : decode cX5_copy 79 = .ok (.goto (-45), 3) := dk_167 255 211 (dk_at dksX5_copy_3 9 rfl rfl)
theorem dX5_copy_82 : decode cX5_copy 82 = .ok (.iconst 0, 1) := dk_3 (dk_at dksX5_copy_3 12 rfl rfl)
theorem dX5_copy_83 : decode cX5_copy 83 = .ok (.istore_n 2, 1) := dk_61 (dk_at dksX5_copy_3 13 rfl rfl)
theorem dX5_copy_84 : decode cX5_copy 84 = .ok (.iload_n 2, 1) := dk_28 (dk_at dksX5_copy_3 14 rfl rfl)
theorem dX5_copy_85 : decode cX5_copy 85 = .ok (.aload_n 0, 1) := dk_42 (dk_at dksX5_copy_3 15 rfl rfl)
theorem dX5_copy_86 : decode cX5_copy 86 = .ok (.getfield 37, 3) := dk_180 0 37 (dk_at dksX5_copy_3 16 rfl rfl)
theorem dX5_copy_89 : decode cX5_copy 89 = .ok (.if_icmp .ge 38, 3) := dk_162 0 38 (dk_at dksX5_copy_3 19 rfl rfl)
theorem dX5_copy_92 : decode cX5_copy 92 = .ok (.iconst 0, 1) := dk_3 (dk_at dksX5_copy_3 22 rfl rfl)
theorem dX5_copy_93 : decode cX5_copy 93 = .ok (.istore_n 3, 1) := dk_62 (dk_at dksX5_copy_3 23 rfl rfl)
theorem dX5_copy_94 : decode cX5_copy 94 = .ok (.iload_n 3, 1) := dk_29 (dk_at dksX5_copy_4 0 rfl rfl)
theorem dX5_copy_95 : decode cX5_copy 95 = .ok (.iconst 3, 1) := dk_6 (dk_at dksX5_copy_4 1 rfl rfl)
theorem dX5_copy_96 : decode cX5_copy 96 = .ok (.if_icmp .ge 25, 3) := dk_162 0 25 (dk_at dksX5_copy_4 2 rfl rfl)
theorem dX5_copy_99 : decode cX5_copy 99 = .ok (.aload_n 0, 1) := dk_42 (dk_at dksX5_copy_4 5 rfl rfl)
theorem dX5_copy_100 : decode cX5_copy 100 = .ok (.getfield 30, 3) := dk_180 0 30 (dk_at dksX5_copy_4 6 rfl rfl)
theorem dX5_copy_103 : decode cX5_copy 103 = .ok (.iload_n 2, 1) := dk_28 (dk_at dksX5_copy_4 9 rfl rfl)
theorem dX5_copy_104 : decode cX5_copy 104 = .ok (.aaload, 1) := dk_50 (dk_at dksX5_copy_4 10 rfl rfl)
theorem dX5_copy_105 : decode cX5_copy 105 = .ok (.iload_n 3, 1) := dk_29 (dk_at dksX5_copy_4 11 rfl rfl)
theorem dX5_copy_106 : decode cX5_copy 106 = .ok (.aload_n 1, 1) := dk_43 (dk_at dksX5_copy_4 12 rfl rfl)
theorem dX5_copy_107 : decode cX5_copy 107 = .ok (.getfield 30, 3) := dk_180 0 30 (dk_at dksX5_copy_4 13 rfl rfl)
theorem dX5_copy_110 : decode cX5_copy 110 = .ok (.iload_n 2, 1) := dk_28 (dk_at dksX5_copy_4 16 rfl rfl)
theorem dX5_copy_111 : decode cX5_copy 111 = .ok (.aaload, 1) := dk_50 (dk_at dksX5_copy_4 17 rfl rfl)
theorem dX5_copy_112 : decode cX5_copy 112 = .ok (.iload_n 3, 1) := dk_29 (dk_at dksX5_copy_4 18 rfl rfl)
theorem dX5_copy_113 : decode cX5_copy 113 = .ok (.iaload, 1) := dk_46 (dk_at dksX5_copy_4 19 rfl rfl)
theorem dX5_copy_114 : decode cX5_copy 114 = .ok (.iastore, 1) := dk_79 (dk_at dksX5_copy_4 20 rfl rfl)
theorem dX5_copy_115 : decode cX5_copy 115 = .ok (.iinc 3 1, 3) := dk_132 3 1 (dk_at dksX5_copy_4 21 rfl rfl)
theorem dX5_copy_118 : decode cX5_copy 118 = .ok (.goto (-24), 3) := dk_167 255 232 (dk_at dksX5_copy_5 0 rfl rfl)
theorem dX5_copy_121 : decode cX5_copy 121 = .ok (.iinc 2 1, 3) := dk_132 2 1 (dk_at dksX5_copy_5 3 rfl rfl)
theorem dX5_copy_124 : decode cX5_copy 124 = .ok (.goto (-40), 3) := dk_167 255 216 (dk_at dksX5_copy_5 6 rfl rfl)
theorem dX5_copy_127 : decode cX5_copy 127 = .ok (.aload_n 0, 1) := dk_42 (dk_at dksX5_copy_5 9 rfl rfl)
theorem dX5_copy_128 : decode cX5_copy 128 = .ok (.areturn, 1) := dk_176 (dk_at dksX5_copy_5 10 rfl rfl)
abbrev cX5_goesBy : ByteArray := prog_18_method_12_code
def yX5_goesBy : MethodName := ⟨RX5, "goesBy", "(I)I"⟩
def dkwX5_goesBy_0 : List UInt8 := [3, 61, 3, 62, 29, 27, 162, 0, 16, 28, 42, 182, 0, 137, 96, 61, 132, 3, 1, 167, 255, 241, 28, 172]
abbrev dktX5_goesBy_0 : List UInt8 := dkwX5_goesBy_0 ++ []
theorem dksX5_goesBy_0 : cX5_goesBy.data.toList.drop 0 = dktX5_goesBy_0 := by decide +kernel
theorem dX5_goesBy_0 : decode cX5_goesBy 0 = .ok (.iconst 0, 1) := dk_3 (dk_at dksX5_goesBy_0 0 rfl rfl)
theorem dX5_goesBy_1 : decode cX5_goesBy 1 = .ok (.istore_n 2, 1) := dk_61 (dk_at dksX5_goesBy_0 1 rfl rfl)
theorem dX5_goesBy_2 : decode cX5_goesBy 2 = .ok (.iconst 0, 1) := dk_3 (dk_at dksX5_goesBy_0 2 rfl rfl)
theorem dX5_goesBy_3 : decode cX5_goesBy 3 = .ok (.istore_n 3, 1) := dk_62 (dk_at dksX5_goesBy_0 3 rfl rfl)
theorem dX5_goesBy_4 : decode cX5_goesBy 4 = .ok (.iload_n 3, 1) := dk_29 (dk_at dksX5_goesBy_0 4 rfl rfl)
theorem dX5_goesBy_5 : decode cX5_goesBy 5 = .ok (.iload_n 1, 1) := dk_27 (dk_at dksX5_goesBy_0 5 rfl rfl)
theorem dX5_goesBy_6 : decode cX5_goesBy 6 = .ok (.if_icmp .ge 16, 3) := dk_162 0 16 (dk_at dksX5_goesBy_0 6 rfl rfl)
theorem dX5_goesBy_9 : decode cX5_goesBy 9 = .ok (.iload_n 2, 1) := dk_28 (dk_at dksX5_goesBy_0 9 rfl rfl)
theorem dX5_goesBy_10 : decode cX5_goesBy 10 = .ok (.aload_n 0, 1) := dk_42 (dk_at dksX5_goesBy_0 10 rfl rfl)
theorem dX5_goesBy_11 : decode cX5_goesBy 11 = .ok (.invokevirtual 137, 3) := dk_182 0 137 (dk_at dksX5_goesBy_0 11 rfl rfl)
theorem dX5_goesBy_14 : decode cX5_goesBy 14 = .ok (.iadd, 1) := dk_96 (dk_at dksX5_goesBy_0 14 rfl rfl)
theorem dX5_goesBy_15 : decode cX5_goesBy 15 = .ok (.istore_n 2, 1) := dk_61 (dk_at dksX5_goesBy_0 15 rfl rfl)
theorem dX5_goesBy_16 : decode cX5_goesBy 16 = .ok (.iinc 3 1, 3) := dk_132 3 1 (dk_at dksX5_goesBy_0 16 rfl rfl)
theorem dX5_goesBy_19 : decode cX5_goesBy 19 = .ok (.goto (-15), 3) := dk_167 255 241 (dk_at dksX5_goesBy_0 19 rfl rfl)
theorem dX5_goesBy_22 : decode cX5_goesBy 22 = .ok (.iload_n 2, 1) := dk_28 (dk_at dksX5_goesBy_0 22 rfl rfl)
theorem dX5_goesBy_23 : decode cX5_goesBy 23 = .ok (.ireturn, 1) := dk_172 (dk_at dksX5_goesBy_0 23 rfl rfl)
abbrev cX5_goes : ByteArray := prog_18_method_11_code
def yX5_goes : MethodName := ⟨RX5, "goes", "()I"⟩
def dkwX5_goes_5 : List UInt8 := [28, 46, 79, 132, 2, 1, 167, 255, 177, 42, 89, 180, 0, 33, 4, 96, 181, 0, 33, 27, 172]
abbrev dktX5_goes_5 : List UInt8 := dkwX5_goes_5 ++ []
def dkwX5_goes_4 : List UInt8 := [154, 0, 15, 42, 28, 3, 182, 0, 134, 132, 1, 1, 167, 0, 15, 42, 180, 0, 15, 28, 42, 180, 0, 19]
abbrev dktX5_goes_4 : List UInt8 := dkwX5_goes_4 ++ dktX5_goes_5
def dkwX5_goes_3 : List UInt8 := [28, 16, 99, 42, 180, 0, 22, 28, 46, 4, 96, 184, 0, 128, 79, 167, 0, 36, 42, 180, 0, 19, 28, 46]
abbrev dktX5_goes_3 : List UInt8 := dkwX5_goes_3 ++ dktX5_goes_4
def dkwX5_goes_2 : List UInt8 := [42, 180, 0, 3, 182, 0, 59, 162, 0, 74, 42, 180, 0, 19, 28, 46, 2, 160, 0, 25, 42, 180, 0, 22]
abbrev dktX5_goes_2 : List UInt8 := dkwX5_goes_2 ++ dktX5_goes_3
def dkwX5_goes_1 : List UInt8 := [153, 0, 11, 42, 27, 182, 0, 125, 167, 0, 4, 2, 79, 132, 1, 1, 167, 255, 219, 3, 60, 3, 61, 28]
abbrev dktX5_goes_1 : List UInt8 := dkwX5_goes_1 ++ dktX5_goes_2
def dkwX5_goes_0 : List UInt8 := [3, 60, 27, 42, 180, 0, 3, 182, 0, 59, 162, 0, 32, 42, 180, 0, 19, 27, 42, 27, 182, 0, 73]
abbrev dktX5_goes_0 : List UInt8 := dkwX5_goes_0 ++ dktX5_goes_1
theorem dksX5_goes_0 : cX5_goes.data.toList.drop 0 = dktX5_goes_0 := by decide +kernel
theorem dksX5_goes_1 : cX5_goes.data.toList.drop 23 = dktX5_goes_1 := dk_seg dksX5_goes_0 23 rfl rfl
theorem dksX5_goes_2 : cX5_goes.data.toList.drop 47 = dktX5_goes_2 := dk_seg dksX5_goes_1 24 rfl rfl
theorem dksX5_goes_3 : cX5_goes.data.toList.drop 71 = dktX5_goes_3 := dk_seg dksX5_goes_2 24 rfl rfl
theorem dksX5_goes_4 : cX5_goes.data.toList.drop 95 = dktX5_goes_4 := dk_seg dksX5_goes_3 24 rfl rfl
theorem dksX5_goes_5 : cX5_goes.data.toList.drop 119 = dktX5_goes_5 := dk_seg dksX5_goes_4 24 rfl rfl
theorem dX5_goes_0 : decode cX5_goes 0 = .ok (.iconst 0, 1) := dk_3 (dk_at dksX5_goes_0 0 rfl rfl)
theorem dX5_goes_1 : decode cX5_goes 1 = .ok (.istore_n 1, 1) := dk_60 (dk_at dksX5_goes_0 1 rfl rfl)
theorem dX5_goes_2 : decode cX5_goes 2 = .ok (.iload_n 1, 1) := dk_27 (dk_at dksX5_goes_0 2 rfl rfl)
theorem dX5_goes_3 : decode cX5_goes 3 = .ok (.aload_n 0, 1) := dk_42 (dk_at dksX5_goes_0 3 rfl rfl)
theorem dX5_goes_4 : decode cX5_goes 4 = .ok (.getfield 3, 3) := dk_180 0 3 (dk_at dksX5_goes_0 4 rfl rfl)
theorem dX5_goes_7 : decode cX5_goes 7 = .ok (.invokevirtual 59, 3) := dk_182 0 59 (dk_at dksX5_goes_0 7 rfl rfl)
theorem dX5_goes_10 : decode cX5_goes 10 = .ok (.if_icmp .ge 32, 3) := dk_162 0 32 (dk_at dksX5_goes_0 10 rfl rfl)
theorem dX5_goes_13 : decode cX5_goes 13 = .ok (.aload_n 0, 1) := dk_42 (dk_at dksX5_goes_0 13 rfl rfl)
theorem dX5_goes_14 : decode cX5_goes 14 = .ok (.getfield 19, 3) := dk_180 0 19 (dk_at dksX5_goes_0 14 rfl rfl)
theorem dX5_goes_17 : decode cX5_goes 17 = .ok (.iload_n 1, 1) := dk_27 (dk_at dksX5_goes_0 17 rfl rfl)
theorem dX5_goes_18 : decode cX5_goes 18 = .ok (.aload_n 0, 1) := dk_42 (dk_at dksX5_goes_0 18 rfl rfl)
theorem dX5_goes_19 : decode cX5_goes 19 = .ok (.iload_n 1, 1) := dk_27 (dk_at dksX5_goes_0 19 rfl rfl)
theorem dX5_goes_20 : decode cX5_goes 20 = .ok (.invokevirtual 73, 3) := dk_182 0 73 (dk_at dksX5_goes_0 20 rfl rfl)
theorem dX5_goes_23 : decode cX5_goes 23 = .ok (.ifCond .eq 11, 3) := dk_153 0 11 (dk_at dksX5_goes_1 0 rfl rfl)
theorem dX5_goes_26 : decode cX5_goes 26 = .ok (.aload_n 0, 1) := dk_42 (dk_at dksX5_goes_1 3 rfl rfl)
theorem dX5_goes_27 : decode cX5_goes 27 = .ok (.iload_n 1, 1) := dk_27 (dk_at dksX5_goes_1 4 rfl rfl)
theorem dX5_goes_28 : decode cX5_goes 28 = .ok (.invokevirtual 125, 3) := dk_182 0 125 (dk_at dksX5_goes_1 5 rfl rfl)
theorem dX5_goes_31 : decode cX5_goes 31 = .ok (.goto 4, 3) := dk_167 0 4 (dk_at dksX5_goes_1 8 rfl rfl)
theorem dX5_goes_34 : decode cX5_goes 34 = .ok (.iconst (-1), 1) := dk_2 (dk_at dksX5_goes_1 11 rfl rfl)
theorem dX5_goes_35 : decode cX5_goes 35 = .ok (.iastore, 1) := dk_79 (dk_at dksX5_goes_1 12 rfl rfl)
theorem dX5_goes_36 : decode cX5_goes 36 = .ok (.iinc 1 1, 3) := dk_132 1 1 (dk_at dksX5_goes_1 13 rfl rfl)
theorem dX5_goes_39 : decode cX5_goes 39 = .ok (.goto (-37), 3) := dk_167 255 219 (dk_at dksX5_goes_1 16 rfl rfl)
theorem dX5_goes_42 : decode cX5_goes 42 = .ok (.iconst 0, 1) := dk_3 (dk_at dksX5_goes_1 19 rfl rfl)
theorem dX5_goes_43 : decode cX5_goes 43 = .ok (.istore_n 1, 1) := dk_60 (dk_at dksX5_goes_1 20 rfl rfl)
theorem dX5_goes_44 : decode cX5_goes 44 = .ok (.iconst 0, 1) := dk_3 (dk_at dksX5_goes_1 21 rfl rfl)
theorem dX5_goes_45 : decode cX5_goes 45 = .ok (.istore_n 2, 1) := dk_61 (dk_at dksX5_goes_1 22 rfl rfl)
theorem dX5_goes_46 : decode cX5_goes 46 = .ok (.iload_n 2, 1) := dk_28 (dk_at dksX5_goes_1 23 rfl rfl)
theorem dX5_goes_47 : decode cX5_goes 47 = .ok (.aload_n 0, 1) := dk_42 (dk_at dksX5_goes_2 0 rfl rfl)
theorem dX5_goes_48 : decode cX5_goes 48 = .ok (.getfield 3, 3) := dk_180 0 3 (dk_at dksX5_goes_2 1 rfl rfl)
theorem dX5_goes_51 : decode cX5_goes 51 = .ok (.invokevirtual 59, 3) := dk_182 0 59 (dk_at dksX5_goes_2 4 rfl rfl)
theorem dX5_goes_54 : decode cX5_goes 54 = .ok (.if_icmp .ge 74, 3) := dk_162 0 74 (dk_at dksX5_goes_2 7 rfl rfl)
theorem dX5_goes_57 : decode cX5_goes 57 = .ok (.aload_n 0, 1) := dk_42 (dk_at dksX5_goes_2 10 rfl rfl)
theorem dX5_goes_58 : decode cX5_goes 58 = .ok (.getfield 19, 3) := dk_180 0 19 (dk_at dksX5_goes_2 11 rfl rfl)
theorem dX5_goes_61 : decode cX5_goes 61 = .ok (.iload_n 2, 1) := dk_28 (dk_at dksX5_goes_2 14 rfl rfl)
theorem dX5_goes_62 : decode cX5_goes 62 = .ok (.iaload, 1) := dk_46 (dk_at dksX5_goes_2 15 rfl rfl)
theorem dX5_goes_63 : decode cX5_goes 63 = .ok (.iconst (-1), 1) := dk_2 (dk_at dksX5_goes_2 16 rfl rfl)
theorem dX5_goes_64 : decode cX5_goes 64 = .ok (.if_icmp .ne 25, 3) := dk_160 0 25 (dk_at dksX5_goes_2 17 rfl rfl)
theorem dX5_goes_67 : decode cX5_goes 67 = .ok (.aload_n 0, 1) := dk_42 (dk_at dksX5_goes_2 20 rfl rfl)
theorem dX5_goes_68 : decode cX5_goes 68 = .ok (.getfield 22, 3) := dk_180 0 22 (dk_at dksX5_goes_2 21 rfl rfl)
theorem dX5_goes_71 : decode cX5_goes 71 = .ok (.iload_n 2, 1) := dk_28 (dk_at dksX5_goes_3 0 rfl rfl)
theorem dX5_goes_72 : decode cX5_goes 72 = .ok (.bipush 99, 2) := dk_16 99 (dk_at dksX5_goes_3 1 rfl rfl)
theorem dX5_goes_74 : decode cX5_goes 74 = .ok (.aload_n 0, 1) := dk_42 (dk_at dksX5_goes_3 3 rfl rfl)
theorem dX5_goes_75 : decode cX5_goes 75 = .ok (.getfield 22, 3) := dk_180 0 22 (dk_at dksX5_goes_3 4 rfl rfl)
theorem dX5_goes_78 : decode cX5_goes 78 = .ok (.iload_n 2, 1) := dk_28 (dk_at dksX5_goes_3 7 rfl rfl)
theorem dX5_goes_79 : decode cX5_goes 79 = .ok (.iaload, 1) := dk_46 (dk_at dksX5_goes_3 8 rfl rfl)
theorem dX5_goes_80 : decode cX5_goes 80 = .ok (.iconst 1, 1) := dk_4 (dk_at dksX5_goes_3 9 rfl rfl)
theorem dX5_goes_81 : decode cX5_goes 81 = .ok (.iadd, 1) := dk_96 (dk_at dksX5_goes_3 10 rfl rfl)
theorem dX5_goes_82 : decode cX5_goes 82 = .ok (.invokestatic 128, 3) := dk_184 0 128 (dk_at dksX5_goes_3 11 rfl rfl)
theorem dX5_goes_85 : decode cX5_goes 85 = .ok (.iastore, 1) := dk_79 (dk_at dksX5_goes_3 14 rfl rfl)
theorem dX5_goes_86 : decode cX5_goes 86 = .ok (.goto 36, 3) := dk_167 0 36 (dk_at dksX5_goes_3 15 rfl rfl)
theorem dX5_goes_89 : decode cX5_goes 89 = .ok (.aload_n 0, 1) := dk_42 (dk_at dksX5_goes_3 18 rfl rfl)
theorem dX5_goes_90 : decode cX5_goes 90 = .ok (.getfield 19, 3) := dk_180 0 19 (dk_at dksX5_goes_3 19 rfl rfl)
theorem dX5_goes_93 : decode cX5_goes 93 = .ok (.iload_n 2, 1) := dk_28 (dk_at dksX5_goes_3 22 rfl rfl)
theorem dX5_goes_94 : decode cX5_goes 94 = .ok (.iaload, 1) := dk_46 (dk_at dksX5_goes_3 23 rfl rfl)
theorem dX5_goes_95 : decode cX5_goes 95 = .ok (.ifCond .ne 15, 3) := dk_154 0 15 (dk_at dksX5_goes_4 0 rfl rfl)
theorem dX5_goes_98 : decode cX5_goes 98 = .ok (.aload_n 0, 1) := dk_42 (dk_at dksX5_goes_4 3 rfl rfl)
theorem dX5_goes_99 : decode cX5_goes 99 = .ok (.iload_n 2, 1) := dk_28 (dk_at dksX5_goes_4 4 rfl rfl)
theorem dX5_goes_100 : decode cX5_goes 100 = .ok (.iconst 0, 1) := dk_3 (dk_at dksX5_goes_4 5 rfl rfl)
theorem dX5_goes_101 : decode cX5_goes 101 = .ok (.invokevirtual 134, 3) := dk_182 0 134 (dk_at dksX5_goes_4 6 rfl rfl)
theorem dX5_goes_104 : decode cX5_goes 104 = .ok (.iinc 1 1, 3) := dk_132 1 1 (dk_at dksX5_goes_4 9 rfl rfl)
theorem dX5_goes_107 : decode cX5_goes 107 = .ok (.goto 15, 3) := dk_167 0 15 (dk_at dksX5_goes_4 12 rfl rfl)
theorem dX5_goes_110 : decode cX5_goes 110 = .ok (.aload_n 0, 1) := dk_42 (dk_at dksX5_goes_4 15 rfl rfl)
theorem dX5_goes_111 : decode cX5_goes 111 = .ok (.getfield 15, 3) := dk_180 0 15 (dk_at dksX5_goes_4 16 rfl rfl)
theorem dX5_goes_114 : decode cX5_goes 114 = .ok (.iload_n 2, 1) := dk_28 (dk_at dksX5_goes_4 19 rfl rfl)
theorem dX5_goes_115 : decode cX5_goes 115 = .ok (.aload_n 0, 1) := dk_42 (dk_at dksX5_goes_4 20 rfl rfl)
theorem dX5_goes_116 : decode cX5_goes 116 = .ok (.getfield 19, 3) := dk_180 0 19 (dk_at dksX5_goes_4 21 rfl rfl)
theorem dX5_goes_119 : decode cX5_goes 119 = .ok (.iload_n 2, 1) := dk_28 (dk_at dksX5_goes_5 0 rfl rfl)
theorem dX5_goes_120 : decode cX5_goes 120 = .ok (.iaload, 1) := dk_46 (dk_at dksX5_goes_5 1 rfl rfl)
theorem dX5_goes_121 : decode cX5_goes 121 = .ok (.iastore, 1) := dk_79 (dk_at dksX5_goes_5 2 rfl rfl)
theorem dX5_goes_122 : decode cX5_goes 122 = .ok (.iinc 2 1, 3) := dk_132 2 1 (dk_at dksX5_goes_5 3 rfl rfl)
theorem dX5_goes_125 : decode cX5_goes 125 = .ok (.goto (-79), 3) := dk_167 255 177 (dk_at dksX5_goes_5 6 rfl rfl)
theorem dX5_goes_128 : decode cX5_goes 128 = .ok (.aload_n 0, 1) := dk_42 (dk_at dksX5_goes_5 9 rfl rfl)
theorem dX5_goes_129 : decode cX5_goes 129 = .ok (.dup, 1) := dk_89 (dk_at dksX5_goes_5 10 rfl rfl)
theorem dX5_goes_130 : decode cX5_goes 130 = .ok (.getfield 33, 3) := dk_180 0 33 (dk_at dksX5_goes_5 11 rfl rfl)
theorem dX5_goes_133 : decode cX5_goes 133 = .ok (.iconst 1, 1) := dk_4 (dk_at dksX5_goes_5 14 rfl rfl)
theorem dX5_goes_134 : decode cX5_goes 134 = .ok (.iadd, 1) := dk_96 (dk_at dksX5_goes_5 15 rfl rfl)
theorem dX5_goes_135 : decode cX5_goes 135 = .ok (.putfield 33, 3) := dk_181 0 33 (dk_at dksX5_goes_5 16 rfl rfl)
theorem dX5_goes_138 : decode cX5_goes 138 = .ok (.iload_n 1, 1) := dk_27 (dk_at dksX5_goes_5 19 rfl rfl)
theorem dX5_goes_139 : decode cX5_goes 139 = .ok (.ireturn, 1) := dk_172 (dk_at dksX5_goes_5 20 rfl rfl)
abbrev cX5_onward : ByteArray := prog_18_method_7_code
def yX5_onward : MethodName := ⟨RX5, "onward", "(I)I"⟩
def dkwX5_onward_2 : List UInt8 := [16, 99, 184, 0, 107, 172]
abbrev dktX5_onward_2 : List UInt8 := dkwX5_onward_2 ++ []
def dkwX5_onward_1 : List UInt8 := [182, 0, 98, 42, 180, 0, 3, 180, 0, 40, 180, 0, 94, 42, 180, 0, 3, 180, 0, 80, 182, 0, 102]
abbrev dktX5_onward_1 : List UInt8 := dkwX5_onward_1 ++ dktX5_onward_2
def dkwX5_onward_0 : List UInt8 := [42, 180, 0, 3, 180, 0, 40, 180, 0, 94, 199, 0, 12, 42, 180, 0, 15, 27, 46, 4, 100, 172, 42, 27]
abbrev dktX5_onward_0 : List UInt8 := dkwX5_onward_0 ++ dktX5_onward_1
theorem dksX5_onward_0 : cX5_onward.data.toList.drop 0 = dktX5_onward_0 := by decide +kernel
theorem dksX5_onward_1 : cX5_onward.data.toList.drop 24 = dktX5_onward_1 := dk_seg dksX5_onward_0 24 rfl rfl
theorem dksX5_onward_2 : cX5_onward.data.toList.drop 47 = dktX5_onward_2 := dk_seg dksX5_onward_1 23 rfl rfl
theorem dX5_onward_0 : decode cX5_onward 0 = .ok (.aload_n 0, 1) := dk_42 (dk_at dksX5_onward_0 0 rfl rfl)
theorem dX5_onward_1 : decode cX5_onward 1 = .ok (.getfield 3, 3) := dk_180 0 3 (dk_at dksX5_onward_0 1 rfl rfl)
theorem dX5_onward_4 : decode cX5_onward 4 = .ok (.getfield 40, 3) := dk_180 0 40 (dk_at dksX5_onward_0 4 rfl rfl)
theorem dX5_onward_7 : decode cX5_onward 7 = .ok (.getfield 94, 3) := dk_180 0 94 (dk_at dksX5_onward_0 7 rfl rfl)
theorem dX5_onward_10 : decode cX5_onward 10 = .ok (.ifnonnull 12, 3) := dk_199 0 12 (dk_at dksX5_onward_0 10 rfl rfl)
theorem dX5_onward_13 : decode cX5_onward 13 = .ok (.aload_n 0, 1) := dk_42 (dk_at dksX5_onward_0 13 rfl rfl)
theorem dX5_onward_14 : decode cX5_onward 14 = .ok (.getfield 15, 3) := dk_180 0 15 (dk_at dksX5_onward_0 14 rfl rfl)
theorem dX5_onward_17 : decode cX5_onward 17 = .ok (.iload_n 1, 1) := dk_27 (dk_at dksX5_onward_0 17 rfl rfl)
theorem dX5_onward_18 : decode cX5_onward 18 = .ok (.iaload, 1) := dk_46 (dk_at dksX5_onward_0 18 rfl rfl)
theorem dX5_onward_19 : decode cX5_onward 19 = .ok (.iconst 1, 1) := dk_4 (dk_at dksX5_onward_0 19 rfl rfl)
theorem dX5_onward_20 : decode cX5_onward 20 = .ok (.isub, 1) := dk_100 (dk_at dksX5_onward_0 20 rfl rfl)
theorem dX5_onward_21 : decode cX5_onward 21 = .ok (.ireturn, 1) := dk_172 (dk_at dksX5_onward_0 21 rfl rfl)
theorem dX5_onward_22 : decode cX5_onward 22 = .ok (.aload_n 0, 1) := dk_42 (dk_at dksX5_onward_0 22 rfl rfl)
theorem dX5_onward_23 : decode cX5_onward 23 = .ok (.iload_n 1, 1) := dk_27 (dk_at dksX5_onward_0 23 rfl rfl)
theorem dX5_onward_24 : decode cX5_onward 24 = .ok (.invokevirtual 98, 3) := dk_182 0 98 (dk_at dksX5_onward_1 0 rfl rfl)
theorem dX5_onward_27 : decode cX5_onward 27 = .ok (.aload_n 0, 1) := dk_42 (dk_at dksX5_onward_1 3 rfl rfl)
theorem dX5_onward_28 : decode cX5_onward 28 = .ok (.getfield 3, 3) := dk_180 0 3 (dk_at dksX5_onward_1 4 rfl rfl)
theorem dX5_onward_31 : decode cX5_onward 31 = .ok (.getfield 40, 3) := dk_180 0 40 (dk_at dksX5_onward_1 7 rfl rfl)
theorem dX5_onward_34 : decode cX5_onward 34 = .ok (.getfield 94, 3) := dk_180 0 94 (dk_at dksX5_onward_1 10 rfl rfl)
theorem dX5_onward_37 : decode cX5_onward 37 = .ok (.aload_n 0, 1) := dk_42 (dk_at dksX5_onward_1 13 rfl rfl)
theorem dX5_onward_38 : decode cX5_onward 38 = .ok (.getfield 3, 3) := dk_180 0 3 (dk_at dksX5_onward_1 14 rfl rfl)
theorem dX5_onward_41 : decode cX5_onward 41 = .ok (.getfield 80, 3) := dk_180 0 80 (dk_at dksX5_onward_1 17 rfl rfl)
theorem dX5_onward_44 : decode cX5_onward 44 = .ok (.invokevirtual 102, 3) := dk_182 0 102 (dk_at dksX5_onward_1 20 rfl rfl)
theorem dX5_onward_47 : decode cX5_onward 47 = .ok (.bipush 99, 2) := dk_16 99 (dk_at dksX5_onward_2 0 rfl rfl)
theorem dX5_onward_49 : decode cX5_onward 49 = .ok (.invokestatic 107, 3) := dk_184 0 107 (dk_at dksX5_onward_2 2 rfl rfl)
theorem dX5_onward_52 : decode cX5_onward 52 = .ok (.ireturn, 1) := dk_172 (dk_at dksX5_onward_2 5 rfl rfl)
abbrev cX5_goesOut : ByteArray := prog_18_method_10_code
def yX5_goesOut : MethodName := ⟨RX5, "goesOut", "(II)V"⟩
def dkwX5_goesOut_0 : List UInt8 := [42, 180, 0, 15, 27, 3, 79, 42, 180, 0, 22, 27, 3, 79, 42, 27, 28, 182, 0, 121, 177]
abbrev dktX5_goesOut_0 : List UInt8 := dkwX5_goesOut_0 ++ []
theorem dksX5_goesOut_0 : cX5_goesOut.data.toList.drop 0 = dktX5_goesOut_0 := by decide +kernel
theorem dX5_goesOut_0 : decode cX5_goesOut 0 = .ok (.aload_n 0, 1) := dk_42 (dk_at dksX5_goesOut_0 0 rfl rfl)
theorem dX5_goesOut_1 : decode cX5_goesOut 1 = .ok (.getfield 15, 3) := dk_180 0 15 (dk_at dksX5_goesOut_0 1 rfl rfl)
theorem dX5_goesOut_4 : decode cX5_goesOut 4 = .ok (.iload_n 1, 1) := dk_27 (dk_at dksX5_goesOut_0 4 rfl rfl)
theorem dX5_goesOut_5 : decode cX5_goesOut 5 = .ok (.iconst 0, 1) := dk_3 (dk_at dksX5_goesOut_0 5 rfl rfl)
theorem dX5_goesOut_6 : decode cX5_goesOut 6 = .ok (.iastore, 1) := dk_79 (dk_at dksX5_goesOut_0 6 rfl rfl)
theorem dX5_goesOut_7 : decode cX5_goesOut 7 = .ok (.aload_n 0, 1) := dk_42 (dk_at dksX5_goesOut_0 7 rfl rfl)
theorem dX5_goesOut_8 : decode cX5_goesOut 8 = .ok (.getfield 22, 3) := dk_180 0 22 (dk_at dksX5_goesOut_0 8 rfl rfl)
theorem dX5_goesOut_11 : decode cX5_goesOut 11 = .ok (.iload_n 1, 1) := dk_27 (dk_at dksX5_goesOut_0 11 rfl rfl)
theorem dX5_goesOut_12 : decode cX5_goesOut 12 = .ok (.iconst 0, 1) := dk_3 (dk_at dksX5_goesOut_0 12 rfl rfl)
theorem dX5_goesOut_13 : decode cX5_goesOut 13 = .ok (.iastore, 1) := dk_79 (dk_at dksX5_goesOut_0 13 rfl rfl)
theorem dX5_goesOut_14 : decode cX5_goesOut 14 = .ok (.aload_n 0, 1) := dk_42 (dk_at dksX5_goesOut_0 14 rfl rfl)
theorem dX5_goesOut_15 : decode cX5_goesOut 15 = .ok (.iload_n 1, 1) := dk_27 (dk_at dksX5_goesOut_0 15 rfl rfl)
theorem dX5_goesOut_16 : decode cX5_goesOut 16 = .ok (.iload_n 2, 1) := dk_28 (dk_at dksX5_goesOut_0 16 rfl rfl)
theorem dX5_goesOut_17 : decode cX5_goesOut 17 = .ok (.invokevirtual 121, 3) := dk_182 0 121 (dk_at dksX5_goesOut_0 17 rfl rfl)
theorem dX5_goesOut_20 : decode cX5_goesOut 20 = .ok (.return_, 1) := dk_177 (dk_at dksX5_goesOut_0 20 rfl rfl)
abbrev cX5_tellsOf : ByteArray := prog_18_method_9_code
def yX5_tellsOf : MethodName := ⟨RX5, "tellsOf", "(II)V"⟩
def dkwX5_tellsOf_5 : List UInt8 := [177]
abbrev dktX5_tellsOf_5 : List UInt8 := dkwX5_tellsOf_5 ++ []
def dkwX5_tellsOf_4 : List UInt8 := [27, 79, 42, 180, 0, 30, 42, 180, 0, 37, 50, 5, 28, 79, 42, 89, 180, 0, 37, 4, 96, 181, 0, 37]
abbrev dktX5_tellsOf_4 : List UInt8 := dkwX5_tellsOf_4 ++ dktX5_tellsOf_5
def dkwX5_tellsOf_3 : List UInt8 := [180, 0, 30, 42, 180, 0, 37, 50, 3, 42, 180, 0, 33, 79, 42, 180, 0, 30, 42, 180, 0, 37, 50, 4]
abbrev dktX5_tellsOf_3 : List UInt8 := dkwX5_tellsOf_3 ++ dktX5_tellsOf_4
def dkwX5_tellsOf_2 : List UInt8 := [167, 255, 230, 42, 180, 0, 30, 16, 39, 45, 83, 42, 89, 180, 0, 37, 4, 100, 181, 0, 37, 42]
abbrev dktX5_tellsOf_2 : List UInt8 := dkwX5_tellsOf_2 ++ dktX5_tellsOf_3
def dkwX5_tellsOf_1 : List UInt8 := [162, 0, 25, 42, 180, 0, 30, 21, 4, 4, 100, 42, 180, 0, 30, 21, 4, 50, 83, 132, 4, 1]
abbrev dktX5_tellsOf_1 : List UInt8 := dkwX5_tellsOf_1 ++ dktX5_tellsOf_2
def dkwX5_tellsOf_0 : List UInt8 := [42, 180, 0, 37, 16, 40, 160, 0, 60, 42, 180, 0, 30, 3, 50, 78, 4, 54, 4, 21, 4, 16, 40]
abbrev dktX5_tellsOf_0 : List UInt8 := dkwX5_tellsOf_0 ++ dktX5_tellsOf_1
theorem dksX5_tellsOf_0 : cX5_tellsOf.data.toList.drop 0 = dktX5_tellsOf_0 := by decide +kernel
theorem dksX5_tellsOf_1 : cX5_tellsOf.data.toList.drop 23 = dktX5_tellsOf_1 := dk_seg dksX5_tellsOf_0 23 rfl rfl
theorem dksX5_tellsOf_2 : cX5_tellsOf.data.toList.drop 45 = dktX5_tellsOf_2 := dk_seg dksX5_tellsOf_1 22 rfl rfl
theorem dksX5_tellsOf_3 : cX5_tellsOf.data.toList.drop 67 = dktX5_tellsOf_3 := dk_seg dksX5_tellsOf_2 22 rfl rfl
theorem dksX5_tellsOf_4 : cX5_tellsOf.data.toList.drop 91 = dktX5_tellsOf_4 := dk_seg dksX5_tellsOf_3 24 rfl rfl
theorem dksX5_tellsOf_5 : cX5_tellsOf.data.toList.drop 115 = dktX5_tellsOf_5 := dk_seg dksX5_tellsOf_4 24 rfl rfl
theorem dX5_tellsOf_0 : decode cX5_tellsOf 0 = .ok (.aload_n 0, 1) := dk_42 (dk_at dksX5_tellsOf_0 0 rfl rfl)
theorem dX5_tellsOf_1 : decode cX5_tellsOf 1 = .ok (.getfield 37, 3) := dk_180 0 37 (dk_at dksX5_tellsOf_0 1 rfl rfl)
theorem dX5_tellsOf_4 : decode cX5_tellsOf 4 = .ok (.bipush 40, 2) := dk_16 40 (dk_at dksX5_tellsOf_0 4 rfl rfl)
theorem dX5_tellsOf_6 : decode cX5_tellsOf 6 = .ok (.if_icmp .ne 60, 3) := dk_160 0 60 (dk_at dksX5_tellsOf_0 6 rfl rfl)
theorem dX5_tellsOf_9 : decode cX5_tellsOf 9 = .ok (.aload_n 0, 1) := dk_42 (dk_at dksX5_tellsOf_0 9 rfl rfl)
theorem dX5_tellsOf_10 : decode cX5_tellsOf 10 = .ok (.getfield 30, 3) := dk_180 0 30 (dk_at dksX5_tellsOf_0 10 rfl rfl)
theorem dX5_tellsOf_13 : decode cX5_tellsOf 13 = .ok (.iconst 0, 1) := dk_3 (dk_at dksX5_tellsOf_0 13 rfl rfl)
theorem dX5_tellsOf_14 : decode cX5_tellsOf 14 = .ok (.aaload, 1) := dk_50 (dk_at dksX5_tellsOf_0 14 rfl rfl)
theorem dX5_tellsOf_15 : decode cX5_tellsOf 15 = .ok (.astore_n 3, 1) := dk_78 (dk_at dksX5_tellsOf_0 15 rfl rfl)
theorem dX5_tellsOf_16 : decode cX5_tellsOf 16 = .ok (.iconst 1, 1) := dk_4 (dk_at dksX5_tellsOf_0 16 rfl rfl)
theorem dX5_tellsOf_17 : decode cX5_tellsOf 17 = .ok (.istore 4, 2) := dk_54 4 (dk_at dksX5_tellsOf_0 17 rfl rfl)
theorem dX5_tellsOf_19 : decode cX5_tellsOf 19 = .ok (.iload 4, 2) := dk_21 4 (dk_at dksX5_tellsOf_0 19 rfl rfl)
theorem dX5_tellsOf_21 : decode cX5_tellsOf 21 = .ok (.bipush 40, 2) := dk_16 40 (dk_at dksX5_tellsOf_0 21 rfl rfl)
theorem dX5_tellsOf_23 : decode cX5_tellsOf 23 = .ok (.if_icmp .ge 25, 3) := dk_162 0 25 (dk_at dksX5_tellsOf_1 0 rfl rfl)
theorem dX5_tellsOf_26 : decode cX5_tellsOf 26 = .ok (.aload_n 0, 1) := dk_42 (dk_at dksX5_tellsOf_1 3 rfl rfl)
theorem dX5_tellsOf_27 : decode cX5_tellsOf 27 = .ok (.getfield 30, 3) := dk_180 0 30 (dk_at dksX5_tellsOf_1 4 rfl rfl)
theorem dX5_tellsOf_30 : decode cX5_tellsOf 30 = .ok (.iload 4, 2) := dk_21 4 (dk_at dksX5_tellsOf_1 7 rfl rfl)
theorem dX5_tellsOf_32 : decode cX5_tellsOf 32 = .ok (.iconst 1, 1) := dk_4 (dk_at dksX5_tellsOf_1 9 rfl rfl)
theorem dX5_tellsOf_33 : decode cX5_tellsOf 33 = .ok (.isub, 1) := dk_100 (dk_at dksX5_tellsOf_1 10 rfl rfl)
theorem dX5_tellsOf_34 : decode cX5_tellsOf 34 = .ok (.aload_n 0, 1) := dk_42 (dk_at dksX5_tellsOf_1 11 rfl rfl)
theorem dX5_tellsOf_35 : decode cX5_tellsOf 35 = .ok (.getfield 30, 3) := dk_180 0 30 (dk_at dksX5_tellsOf_1 12 rfl rfl)
theorem dX5_tellsOf_38 : decode cX5_tellsOf 38 = .ok (.iload 4, 2) := dk_21 4 (dk_at dksX5_tellsOf_1 15 rfl rfl)
theorem dX5_tellsOf_40 : decode cX5_tellsOf 40 = .ok (.aaload, 1) := dk_50 (dk_at dksX5_tellsOf_1 17 rfl rfl)
theorem dX5_tellsOf_41 : decode cX5_tellsOf 41 = .ok (.aastore, 1) := dk_83 (dk_at dksX5_tellsOf_1 18 rfl rfl)
theorem dX5_tellsOf_42 : decode cX5_tellsOf 42 = .ok (.iinc 4 1, 3) := dk_132 4 1 (dk_at dksX5_tellsOf_1 19 rfl rfl)
theorem dX5_tellsOf_45 : decode cX5_tellsOf 45 = .ok (.goto (-26), 3) := dk_167 255 230 (dk_at dksX5_tellsOf_2 0 rfl rfl)
theorem dX5_tellsOf_48 : decode cX5_tellsOf 48 = .ok (.aload_n 0, 1) := dk_42 (dk_at dksX5_tellsOf_2 3 rfl rfl)
theorem dX5_tellsOf_49 : decode cX5_tellsOf 49 = .ok (.getfield 30, 3) := dk_180 0 30 (dk_at dksX5_tellsOf_2 4 rfl rfl)
theorem dX5_tellsOf_52 : decode cX5_tellsOf 52 = .ok (.bipush 39, 2) := dk_16 39 (dk_at dksX5_tellsOf_2 7 rfl rfl)
theorem dX5_tellsOf_54 : decode cX5_tellsOf 54 = .ok (.aload_n 3, 1) := dk_45 (dk_at dksX5_tellsOf_2 9 rfl rfl)
theorem dX5_tellsOf_55 : decode cX5_tellsOf 55 = .ok (.aastore, 1) := dk_83 (dk_at dksX5_tellsOf_2 10 rfl rfl)
theorem dX5_tellsOf_56 : decode cX5_tellsOf 56 = .ok (.aload_n 0, 1) := dk_42 (dk_at dksX5_tellsOf_2 11 rfl rfl)
theorem dX5_tellsOf_57 : decode cX5_tellsOf 57 = .ok (.dup, 1) := dk_89 (dk_at dksX5_tellsOf_2 12 rfl rfl)
theorem dX5_tellsOf_58 : decode cX5_tellsOf 58 = .ok (.getfield 37, 3) := dk_180 0 37 (dk_at dksX5_tellsOf_2 13 rfl rfl)
theorem dX5_tellsOf_61 : decode cX5_tellsOf 61 = .ok (.iconst 1, 1) := dk_4 (dk_at dksX5_tellsOf_2 16 rfl rfl)
theorem dX5_tellsOf_62 : decode cX5_tellsOf 62 = .ok (.isub, 1) := dk_100 (dk_at dksX5_tellsOf_2 17 rfl rfl)
theorem dX5_tellsOf_63 : decode cX5_tellsOf 63 = .ok (.putfield 37, 3) := dk_181 0 37 (dk_at dksX5_tellsOf_2 18 rfl rfl)
theorem dX5_tellsOf_66 : decode cX5_tellsOf 66 = .ok (.aload_n 0, 1) := dk_42 (dk_at dksX5_tellsOf_2 21 rfl rfl)
theorem dX5_tellsOf_67 : decode cX5_tellsOf 67 = .ok (.getfield 30, 3) := dk_180 0 30 (dk_at dksX5_tellsOf_3 0 rfl rfl)
theorem dX5_tellsOf_70 : decode cX5_tellsOf 70 = .ok (.aload_n 0, 1) := dk_42 (dk_at dksX5_tellsOf_3 3 rfl rfl)
theorem dX5_tellsOf_71 : decode cX5_tellsOf 71 = .ok (.getfield 37, 3) := dk_180 0 37 (dk_at dksX5_tellsOf_3 4 rfl rfl)
theorem dX5_tellsOf_74 : decode cX5_tellsOf 74 = .ok (.aaload, 1) := dk_50 (dk_at dksX5_tellsOf_3 7 rfl rfl)
theorem dX5_tellsOf_75 : decode cX5_tellsOf 75 = .ok (.iconst 0, 1) := dk_3 (dk_at dksX5_tellsOf_3 8 rfl rfl)
theorem dX5_tellsOf_76 : decode cX5_tellsOf 76 = .ok (.aload_n 0, 1) := dk_42 (dk_at dksX5_tellsOf_3 9 rfl rfl)
theorem dX5_tellsOf_77 : decode cX5_tellsOf 77 = .ok (.getfield 33, 3) := dk_180 0 33 (dk_at dksX5_tellsOf_3 10 rfl rfl)
theorem dX5_tellsOf_80 : decode cX5_tellsOf 80 = .ok (.iastore, 1) := dk_79 (dk_at dksX5_tellsOf_3 13 rfl rfl)
theorem dX5_tellsOf_81 : decode cX5_tellsOf 81 = .ok (.aload_n 0, 1) := dk_42 (dk_at dksX5_tellsOf_3 14 rfl rfl)
theorem dX5_tellsOf_82 : decode cX5_tellsOf 82 = .ok (.getfield 30, 3) := dk_180 0 30 (dk_at dksX5_tellsOf_3 15 rfl rfl)
theorem dX5_tellsOf_85 : decode cX5_tellsOf 85 = .ok (.aload_n 0, 1) := dk_42 (dk_at dksX5_tellsOf_3 18 rfl rfl)
theorem dX5_tellsOf_86 : decode cX5_tellsOf 86 = .ok (.getfield 37, 3) := dk_180 0 37 (dk_at dksX5_tellsOf_3 19 rfl rfl)
theorem dX5_tellsOf_89 : decode cX5_tellsOf 89 = .ok (.aaload, 1) := dk_50 (dk_at dksX5_tellsOf_3 22 rfl rfl)
theorem dX5_tellsOf_90 : decode cX5_tellsOf 90 = .ok (.iconst 1, 1) := dk_4 (dk_at dksX5_tellsOf_3 23 rfl rfl)
theorem dX5_tellsOf_91 : decode cX5_tellsOf 91 = .ok (.iload_n 1, 1) := dk_27 (dk_at dksX5_tellsOf_4 0 rfl rfl)
theorem dX5_tellsOf_92 : decode cX5_tellsOf 92 = .ok (.iastore, 1) := dk_79 (dk_at dksX5_tellsOf_4 1 rfl rfl)
theorem dX5_tellsOf_93 : decode cX5_tellsOf 93 = .ok (.aload_n 0, 1) := dk_42 (dk_at dksX5_tellsOf_4 2 rfl rfl)
theorem dX5_tellsOf_94 : decode cX5_tellsOf 94 = .ok (.getfield 30, 3) := dk_180 0 30 (dk_at dksX5_tellsOf_4 3 rfl rfl)
theorem dX5_tellsOf_97 : decode cX5_tellsOf 97 = .ok (.aload_n 0, 1) := dk_42 (dk_at dksX5_tellsOf_4 6 rfl rfl)
theorem dX5_tellsOf_98 : decode cX5_tellsOf 98 = .ok (.getfield 37, 3) := dk_180 0 37 (dk_at dksX5_tellsOf_4 7 rfl rfl)
theorem dX5_tellsOf_101 : decode cX5_tellsOf 101 = .ok (.aaload, 1) := dk_50 (dk_at dksX5_tellsOf_4 10 rfl rfl)
theorem dX5_tellsOf_102 : decode cX5_tellsOf 102 = .ok (.iconst 2, 1) := dk_5 (dk_at dksX5_tellsOf_4 11 rfl rfl)
theorem dX5_tellsOf_103 : decode cX5_tellsOf 103 = .ok (.iload_n 2, 1) := dk_28 (dk_at dksX5_tellsOf_4 12 rfl rfl)
theorem dX5_tellsOf_104 : decode cX5_tellsOf 104 = .ok (.iastore, 1) := dk_79 (dk_at dksX5_tellsOf_4 13 rfl rfl)
theorem dX5_tellsOf_105 : decode cX5_tellsOf 105 = .ok (.aload_n 0, 1) := dk_42 (dk_at dksX5_tellsOf_4 14 rfl rfl)
theorem dX5_tellsOf_106 : decode cX5_tellsOf 106 = .ok (.dup, 1) := dk_89 (dk_at dksX5_tellsOf_4 15 rfl rfl)
theorem dX5_tellsOf_107 : decode cX5_tellsOf 107 = .ok (.getfield 37, 3) := dk_180 0 37 (dk_at dksX5_tellsOf_4 16 rfl rfl)
theorem dX5_tellsOf_110 : decode cX5_tellsOf 110 = .ok (.iconst 1, 1) := dk_4 (dk_at dksX5_tellsOf_4 19 rfl rfl)
theorem dX5_tellsOf_111 : decode cX5_tellsOf 111 = .ok (.iadd, 1) := dk_96 (dk_at dksX5_tellsOf_4 20 rfl rfl)
theorem dX5_tellsOf_112 : decode cX5_tellsOf 112 = .ok (.putfield 37, 3) := dk_181 0 37 (dk_at dksX5_tellsOf_4 21 rfl rfl)
theorem dX5_tellsOf_115 : decode cX5_tellsOf 115 = .ok (.return_, 1) := dk_177 (dk_at dksX5_tellsOf_5 0 rfl rfl)
abbrev cX5_putsOut : ByteArray := prog_18_method_14_code
def yX5_putsOut : MethodName := ⟨RX5, "putsOut", "(I)I"⟩
def dkwX5_putsOut_2 : List UInt8 := [167, 0, 13, 42, 21, 4, 5, 182, 0, 134, 132, 3, 1, 132, 4, 1, 167, 255, 210, 29, 172]
abbrev dktX5_putsOut_2 : List UInt8 := dkwX5_putsOut_2 ++ []
def dkwX5_putsOut_1 : List UInt8 := [182, 0, 59, 162, 0, 40, 28, 21, 4, 184, 0, 140, 153, 0, 25, 42, 21, 4, 182, 0, 73, 154, 0, 6]
abbrev dktX5_putsOut_1 : List UInt8 := dkwX5_putsOut_1 ++ dktX5_putsOut_2
def dkwX5_putsOut_0 : List UInt8 := [42, 27, 182, 0, 156, 61, 42, 27, 4, 182, 0, 134, 4, 62, 3, 54, 4, 21, 4, 42, 180, 0, 3]
abbrev dktX5_putsOut_0 : List UInt8 := dkwX5_putsOut_0 ++ dktX5_putsOut_1
theorem dksX5_putsOut_0 : cX5_putsOut.data.toList.drop 0 = dktX5_putsOut_0 := by decide +kernel
theorem dksX5_putsOut_1 : cX5_putsOut.data.toList.drop 23 = dktX5_putsOut_1 := dk_seg dksX5_putsOut_0 23 rfl rfl
theorem dksX5_putsOut_2 : cX5_putsOut.data.toList.drop 47 = dktX5_putsOut_2 := dk_seg dksX5_putsOut_1 24 rfl rfl
theorem dX5_putsOut_0 : decode cX5_putsOut 0 = .ok (.aload_n 0, 1) := dk_42 (dk_at dksX5_putsOut_0 0 rfl rfl)
theorem dX5_putsOut_1 : decode cX5_putsOut 1 = .ok (.iload_n 1, 1) := dk_27 (dk_at dksX5_putsOut_0 1 rfl rfl)
theorem dX5_putsOut_2 : decode cX5_putsOut 2 = .ok (.invokevirtual 156, 3) := dk_182 0 156 (dk_at dksX5_putsOut_0 2 rfl rfl)
theorem dX5_putsOut_5 : decode cX5_putsOut 5 = .ok (.istore_n 2, 1) := dk_61 (dk_at dksX5_putsOut_0 5 rfl rfl)
theorem dX5_putsOut_6 : decode cX5_putsOut 6 = .ok (.aload_n 0, 1) := dk_42 (dk_at dksX5_putsOut_0 6 rfl rfl)
theorem dX5_putsOut_7 : decode cX5_putsOut 7 = .ok (.iload_n 1, 1) := dk_27 (dk_at dksX5_putsOut_0 7 rfl rfl)
theorem dX5_putsOut_8 : decode cX5_putsOut 8 = .ok (.iconst 1, 1) := dk_4 (dk_at dksX5_putsOut_0 8 rfl rfl)
theorem dX5_putsOut_9 : decode cX5_putsOut 9 = .ok (.invokevirtual 134, 3) := dk_182 0 134 (dk_at dksX5_putsOut_0 9 rfl rfl)
theorem dX5_putsOut_12 : decode cX5_putsOut 12 = .ok (.iconst 1, 1) := dk_4 (dk_at dksX5_putsOut_0 12 rfl rfl)
theorem dX5_putsOut_13 : decode cX5_putsOut 13 = .ok (.istore_n 3, 1) := dk_62 (dk_at dksX5_putsOut_0 13 rfl rfl)
theorem dX5_putsOut_14 : decode cX5_putsOut 14 = .ok (.iconst 0, 1) := dk_3 (dk_at dksX5_putsOut_0 14 rfl rfl)
theorem dX5_putsOut_15 : decode cX5_putsOut 15 = .ok (.istore 4, 2) := dk_54 4 (dk_at dksX5_putsOut_0 15 rfl rfl)
theorem dX5_putsOut_17 : decode cX5_putsOut 17 = .ok (.iload 4, 2) := dk_21 4 (dk_at dksX5_putsOut_0 17 rfl rfl)
theorem dX5_putsOut_19 : decode cX5_putsOut 19 = .ok (.aload_n 0, 1) := dk_42 (dk_at dksX5_putsOut_0 19 rfl rfl)
theorem dX5_putsOut_20 : decode cX5_putsOut 20 = .ok (.getfield 3, 3) := dk_180 0 3 (dk_at dksX5_putsOut_0 20 rfl rfl)
theorem dX5_putsOut_23 : decode cX5_putsOut 23 = .ok (.invokevirtual 59, 3) := dk_182 0 59 (dk_at dksX5_putsOut_1 0 rfl rfl)
theorem dX5_putsOut_26 : decode cX5_putsOut 26 = .ok (.if_icmp .ge 40, 3) := dk_162 0 40 (dk_at dksX5_putsOut_1 3 rfl rfl)
theorem dX5_putsOut_29 : decode cX5_putsOut 29 = .ok (.iload_n 2, 1) := dk_28 (dk_at dksX5_putsOut_1 6 rfl rfl)
theorem dX5_putsOut_30 : decode cX5_putsOut 30 = .ok (.iload 4, 2) := dk_21 4 (dk_at dksX5_putsOut_1 7 rfl rfl)
theorem dX5_putsOut_32 : decode cX5_putsOut 32 = .ok (.invokestatic 140, 3) := dk_184 0 140 (dk_at dksX5_putsOut_1 9 rfl rfl)
theorem dX5_putsOut_35 : decode cX5_putsOut 35 = .ok (.ifCond .eq 25, 3) := dk_153 0 25 (dk_at dksX5_putsOut_1 12 rfl rfl)
theorem dX5_putsOut_38 : decode cX5_putsOut 38 = .ok (.aload_n 0, 1) := dk_42 (dk_at dksX5_putsOut_1 15 rfl rfl)
theorem dX5_putsOut_39 : decode cX5_putsOut 39 = .ok (.iload 4, 2) := dk_21 4 (dk_at dksX5_putsOut_1 16 rfl rfl)
theorem dX5_putsOut_41 : decode cX5_putsOut 41 = .ok (.invokevirtual 73, 3) := dk_182 0 73 (dk_at dksX5_putsOut_1 18 rfl rfl)
theorem dX5_putsOut_44 : decode cX5_putsOut 44 = .ok (.ifCond .ne 6, 3) := dk_154 0 6 (dk_at dksX5_putsOut_1 21 rfl rfl)
theorem dX5_putsOut_47 : decode cX5_putsOut 47 = .ok (.goto 13, 3) := dk_167 0 13 (dk_at dksX5_putsOut_2 0 rfl rfl)
theorem dX5_putsOut_50 : decode cX5_putsOut 50 = .ok (.aload_n 0, 1) := dk_42 (dk_at dksX5_putsOut_2 3 rfl rfl)
theorem dX5_putsOut_51 : decode cX5_putsOut 51 = .ok (.iload 4, 2) := dk_21 4 (dk_at dksX5_putsOut_2 4 rfl rfl)
theorem dX5_putsOut_53 : decode cX5_putsOut 53 = .ok (.iconst 2, 1) := dk_5 (dk_at dksX5_putsOut_2 6 rfl rfl)
theorem dX5_putsOut_54 : decode cX5_putsOut 54 = .ok (.invokevirtual 134, 3) := dk_182 0 134 (dk_at dksX5_putsOut_2 7 rfl rfl)
theorem dX5_putsOut_57 : decode cX5_putsOut 57 = .ok (.iinc 3 1, 3) := dk_132 3 1 (dk_at dksX5_putsOut_2 10 rfl rfl)
theorem dX5_putsOut_60 : decode cX5_putsOut 60 = .ok (.iinc 4 1, 3) := dk_132 4 1 (dk_at dksX5_putsOut_2 13 rfl rfl)
theorem dX5_putsOut_63 : decode cX5_putsOut 63 = .ok (.goto (-46), 3) := dk_167 255 210 (dk_at dksX5_putsOut_2 16 rfl rfl)
theorem dX5_putsOut_66 : decode cX5_putsOut 66 = .ok (.iload_n 3, 1) := dk_29 (dk_at dksX5_putsOut_2 19 rfl rfl)
theorem dX5_putsOut_67 : decode cX5_putsOut 67 = .ok (.ireturn, 1) := dk_172 (dk_at dksX5_putsOut_2 20 rfl rfl)
abbrev cX5_mayBeLit : ByteArray := prog_18_method_17_code
def yX5_mayBeLit : MethodName := ⟨RX5, "mayBeLit", "(II)Z"⟩
def dkwX5_mayBeLit_1 : List UInt8 := [182, 0, 162, 153, 0, 5, 4, 172, 132, 3, 1, 167, 255, 223, 3, 172]
abbrev dktX5_mayBeLit_1 : List UInt8 := dkwX5_mayBeLit_1 ++ []
def dkwX5_mayBeLit_0 : List UInt8 := [3, 62, 29, 42, 180, 0, 3, 182, 0, 59, 162, 0, 28, 28, 29, 184, 0, 140, 153, 0, 14, 42, 29, 27]
abbrev dktX5_mayBeLit_0 : List UInt8 := dkwX5_mayBeLit_0 ++ dktX5_mayBeLit_1
theorem dksX5_mayBeLit_0 : cX5_mayBeLit.data.toList.drop 0 = dktX5_mayBeLit_0 := by decide +kernel
theorem dksX5_mayBeLit_1 : cX5_mayBeLit.data.toList.drop 24 = dktX5_mayBeLit_1 := dk_seg dksX5_mayBeLit_0 24 rfl rfl
theorem dX5_mayBeLit_0 : decode cX5_mayBeLit 0 = .ok (.iconst 0, 1) := dk_3 (dk_at dksX5_mayBeLit_0 0 rfl rfl)
theorem dX5_mayBeLit_1 : decode cX5_mayBeLit 1 = .ok (.istore_n 3, 1) := dk_62 (dk_at dksX5_mayBeLit_0 1 rfl rfl)
theorem dX5_mayBeLit_2 : decode cX5_mayBeLit 2 = .ok (.iload_n 3, 1) := dk_29 (dk_at dksX5_mayBeLit_0 2 rfl rfl)
theorem dX5_mayBeLit_3 : decode cX5_mayBeLit 3 = .ok (.aload_n 0, 1) := dk_42 (dk_at dksX5_mayBeLit_0 3 rfl rfl)
theorem dX5_mayBeLit_4 : decode cX5_mayBeLit 4 = .ok (.getfield 3, 3) := dk_180 0 3 (dk_at dksX5_mayBeLit_0 4 rfl rfl)
theorem dX5_mayBeLit_7 : decode cX5_mayBeLit 7 = .ok (.invokevirtual 59, 3) := dk_182 0 59 (dk_at dksX5_mayBeLit_0 7 rfl rfl)
theorem dX5_mayBeLit_10 : decode cX5_mayBeLit 10 = .ok (.if_icmp .ge 28, 3) := dk_162 0 28 (dk_at dksX5_mayBeLit_0 10 rfl rfl)
theorem dX5_mayBeLit_13 : decode cX5_mayBeLit 13 = .ok (.iload_n 2, 1) := dk_28 (dk_at dksX5_mayBeLit_0 13 rfl rfl)
theorem dX5_mayBeLit_14 : decode cX5_mayBeLit 14 = .ok (.iload_n 3, 1) := dk_29 (dk_at dksX5_mayBeLit_0 14 rfl rfl)
theorem dX5_mayBeLit_15 : decode cX5_mayBeLit 15 = .ok (.invokestatic 140, 3) := dk_184 0 140 (dk_at dksX5_mayBeLit_0 15 rfl rfl)
theorem dX5_mayBeLit_18 : decode cX5_mayBeLit 18 = .ok (.ifCond .eq 14, 3) := dk_153 0 14 (dk_at dksX5_mayBeLit_0 18 rfl rfl)
theorem dX5_mayBeLit_21 : decode cX5_mayBeLit 21 = .ok (.aload_n 0, 1) := dk_42 (dk_at dksX5_mayBeLit_0 21 rfl rfl)
theorem dX5_mayBeLit_22 : decode cX5_mayBeLit 22 = .ok (.iload_n 3, 1) := dk_29 (dk_at dksX5_mayBeLit_0 22 rfl rfl)
theorem dX5_mayBeLit_23 : decode cX5_mayBeLit 23 = .ok (.iload_n 1, 1) := dk_27 (dk_at dksX5_mayBeLit_0 23 rfl rfl)
theorem dX5_mayBeLit_24 : decode cX5_mayBeLit 24 = .ok (.invokevirtual 162, 3) := dk_182 0 162 (dk_at dksX5_mayBeLit_1 0 rfl rfl)
theorem dX5_mayBeLit_27 : decode cX5_mayBeLit 27 = .ok (.ifCond .eq 5, 3) := dk_153 0 5 (dk_at dksX5_mayBeLit_1 3 rfl rfl)
theorem dX5_mayBeLit_30 : decode cX5_mayBeLit 30 = .ok (.iconst 1, 1) := dk_4 (dk_at dksX5_mayBeLit_1 6 rfl rfl)
theorem dX5_mayBeLit_31 : decode cX5_mayBeLit 31 = .ok (.ireturn, 1) := dk_172 (dk_at dksX5_mayBeLit_1 7 rfl rfl)
theorem dX5_mayBeLit_32 : decode cX5_mayBeLit 32 = .ok (.iinc 3 1, 3) := dk_132 3 1 (dk_at dksX5_mayBeLit_1 8 rfl rfl)
theorem dX5_mayBeLit_35 : decode cX5_mayBeLit 35 = .ok (.goto (-33), 3) := dk_167 255 223 (dk_at dksX5_mayBeLit_1 11 rfl rfl)
theorem dX5_mayBeLit_38 : decode cX5_mayBeLit 38 = .ok (.iconst 0, 1) := dk_3 (dk_at dksX5_mayBeLit_1 14 rfl rfl)
theorem dX5_mayBeLit_39 : decode cX5_mayBeLit 39 = .ok (.ireturn, 1) := dk_172 (dk_at dksX5_mayBeLit_1 15 rfl rfl)
abbrev cX5_mayLight : ByteArray := prog_18_method_16_code
def yX5_mayLight : MethodName := ⟨RX5, "mayLight", "(II)Z"⟩
def dkwX5_mayLight_6 : List UInt8 := [167, 255, 157, 29, 172]
abbrev dktX5_mayLight_6 : List UInt8 := dkwX5_mayLight_6 ++ []
def dkwX5_mayLight_5 : List UInt8 := [21, 4, 182, 0, 144, 180, 0, 153, 27, 160, 0, 7, 4, 167, 0, 4, 3, 128, 62, 132, 4, 1]
abbrev dktX5_mayLight_5 : List UInt8 := dkwX5_mayLight_5 ++ dktX5_mayLight_6
def dkwX5_mayLight_4 : List UInt8 := [28, 159, 0, 35, 42, 180, 0, 3, 21, 4, 182, 0, 144, 180, 0, 148, 28, 160, 0, 23, 42, 180, 0, 3]
abbrev dktX5_mayLight_4 : List UInt8 := dkwX5_mayLight_4 ++ dktX5_mayLight_5
def dkwX5_mayLight_3 : List UInt8 := [21, 4, 182, 0, 144, 180, 0, 148, 27, 160, 0, 19, 42, 180, 0, 3, 21, 4, 182, 0, 144, 180, 0, 153]
abbrev dktX5_mayLight_3 : List UInt8 := dkwX5_mayLight_3 ++ dktX5_mayLight_4
def dkwX5_mayLight_2 : List UInt8 := [182, 0, 52, 162, 0, 93, 29, 42, 180, 0, 56, 21, 4, 184, 0, 140, 153, 0, 71, 42, 180, 0, 3]
abbrev dktX5_mayLight_2 : List UInt8 := dkwX5_mayLight_2 ++ dktX5_mayLight_3
def dkwX5_mayLight_1 : List UInt8 := [182, 0, 62, 180, 0, 77, 160, 0, 7, 4, 167, 0, 4, 3, 62, 3, 54, 4, 21, 4, 42, 180, 0, 3]
abbrev dktX5_mayLight_1 : List UInt8 := dkwX5_mayLight_1 ++ dktX5_mayLight_2
def dkwX5_mayLight_0 : List UInt8 := [27, 28, 160, 0, 5, 3, 172, 42, 180, 0, 3, 27, 182, 0, 62, 180, 0, 77, 42, 180, 0, 3, 28]
abbrev dktX5_mayLight_0 : List UInt8 := dkwX5_mayLight_0 ++ dktX5_mayLight_1
theorem dksX5_mayLight_0 : cX5_mayLight.data.toList.drop 0 = dktX5_mayLight_0 := by decide +kernel
theorem dksX5_mayLight_1 : cX5_mayLight.data.toList.drop 23 = dktX5_mayLight_1 := dk_seg dksX5_mayLight_0 23 rfl rfl
theorem dksX5_mayLight_2 : cX5_mayLight.data.toList.drop 47 = dktX5_mayLight_2 := dk_seg dksX5_mayLight_1 24 rfl rfl
theorem dksX5_mayLight_3 : cX5_mayLight.data.toList.drop 70 = dktX5_mayLight_3 := dk_seg dksX5_mayLight_2 23 rfl rfl
theorem dksX5_mayLight_4 : cX5_mayLight.data.toList.drop 94 = dktX5_mayLight_4 := dk_seg dksX5_mayLight_3 24 rfl rfl
theorem dksX5_mayLight_5 : cX5_mayLight.data.toList.drop 118 = dktX5_mayLight_5 := dk_seg dksX5_mayLight_4 24 rfl rfl
theorem dksX5_mayLight_6 : cX5_mayLight.data.toList.drop 140 = dktX5_mayLight_6 := dk_seg dksX5_mayLight_5 22 rfl rfl
theorem dX5_mayLight_0 : decode cX5_mayLight 0 = .ok (.iload_n 1, 1) := dk_27 (dk_at dksX5_mayLight_0 0 rfl rfl)
theorem dX5_mayLight_1 : decode cX5_mayLight 1 = .ok (.iload_n 2, 1) := dk_28 (dk_at dksX5_mayLight_0 1 rfl rfl)
theorem dX5_mayLight_2 : decode cX5_mayLight 2 = .ok (.if_icmp .ne 5, 3) := dk_160 0 5 (dk_at dksX5_mayLight_0 2 rfl rfl)
theorem dX5_mayLight_5 : decode cX5_mayLight 5 = .ok (.iconst 0, 1) := dk_3 (dk_at dksX5_mayLight_0 5 rfl rfl)
theorem dX5_mayLight_6 : decode cX5_mayLight 6 = .ok (.ireturn, 1) := dk_172 (dk_at dksX5_mayLight_0 6 rfl rfl)
theorem dX5_mayLight_7 : decode cX5_mayLight 7 = .ok (.aload_n 0, 1) := dk_42 (dk_at dksX5_mayLight_0 7 rfl rfl)
theorem dX5_mayLight_8 : decode cX5_mayLight 8 = .ok (.getfield 3, 3) := dk_180 0 3 (dk_at dksX5_mayLight_0 8 rfl rfl)
theorem dX5_mayLight_11 : decode cX5_mayLight 11 = .ok (.iload_n 1, 1) := dk_27 (dk_at dksX5_mayLight_0 11 rfl rfl)
theorem dX5_mayLight_12 : decode cX5_mayLight 12 = .ok (.invokevirtual 62, 3) := dk_182 0 62 (dk_at dksX5_mayLight_0 12 rfl rfl)
theorem dX5_mayLight_15 : decode cX5_mayLight 15 = .ok (.getfield 77, 3) := dk_180 0 77 (dk_at dksX5_mayLight_0 15 rfl rfl)
theorem dX5_mayLight_18 : decode cX5_mayLight 18 = .ok (.aload_n 0, 1) := dk_42 (dk_at dksX5_mayLight_0 18 rfl rfl)
theorem dX5_mayLight_19 : decode cX5_mayLight 19 = .ok (.getfield 3, 3) := dk_180 0 3 (dk_at dksX5_mayLight_0 19 rfl rfl)
theorem dX5_mayLight_22 : decode cX5_mayLight 22 = .ok (.iload_n 2, 1) := dk_28 (dk_at dksX5_mayLight_0 22 rfl rfl)
theorem dX5_mayLight_23 : decode cX5_mayLight 23 = .ok (.invokevirtual 62, 3) := dk_182 0 62 (dk_at dksX5_mayLight_1 0 rfl rfl)
theorem dX5_mayLight_26 : decode cX5_mayLight 26 = .ok (.getfield 77, 3) := dk_180 0 77 (dk_at dksX5_mayLight_1 3 rfl rfl)
theorem dX5_mayLight_29 : decode cX5_mayLight 29 = .ok (.if_icmp .ne 7, 3) := dk_160 0 7 (dk_at dksX5_mayLight_1 6 rfl rfl)
theorem dX5_mayLight_32 : decode cX5_mayLight 32 = .ok (.iconst 1, 1) := dk_4 (dk_at dksX5_mayLight_1 9 rfl rfl)
theorem dX5_mayLight_33 : decode cX5_mayLight 33 = .ok (.goto 4, 3) := dk_167 0 4 (dk_at dksX5_mayLight_1 10 rfl rfl)
theorem dX5_mayLight_36 : decode cX5_mayLight 36 = .ok (.iconst 0, 1) := dk_3 (dk_at dksX5_mayLight_1 13 rfl rfl)
theorem dX5_mayLight_37 : decode cX5_mayLight 37 = .ok (.istore_n 3, 1) := dk_62 (dk_at dksX5_mayLight_1 14 rfl rfl)
theorem dX5_mayLight_38 : decode cX5_mayLight 38 = .ok (.iconst 0, 1) := dk_3 (dk_at dksX5_mayLight_1 15 rfl rfl)
theorem dX5_mayLight_39 : decode cX5_mayLight 39 = .ok (.istore 4, 2) := dk_54 4 (dk_at dksX5_mayLight_1 16 rfl rfl)
theorem dX5_mayLight_41 : decode cX5_mayLight 41 = .ok (.iload 4, 2) := dk_21 4 (dk_at dksX5_mayLight_1 18 rfl rfl)
theorem dX5_mayLight_43 : decode cX5_mayLight 43 = .ok (.aload_n 0, 1) := dk_42 (dk_at dksX5_mayLight_1 20 rfl rfl)
theorem dX5_mayLight_44 : decode cX5_mayLight 44 = .ok (.getfield 3, 3) := dk_180 0 3 (dk_at dksX5_mayLight_1 21 rfl rfl)
theorem dX5_mayLight_47 : decode cX5_mayLight 47 = .ok (.invokevirtual 52, 3) := dk_182 0 52 (dk_at dksX5_mayLight_2 0 rfl rfl)
theorem dX5_mayLight_50 : decode cX5_mayLight 50 = .ok (.if_icmp .ge 93, 3) := dk_162 0 93 (dk_at dksX5_mayLight_2 3 rfl rfl)
theorem dX5_mayLight_53 : decode cX5_mayLight 53 = .ok (.iload_n 3, 1) := dk_29 (dk_at dksX5_mayLight_2 6 rfl rfl)
theorem dX5_mayLight_54 : decode cX5_mayLight 54 = .ok (.aload_n 0, 1) := dk_42 (dk_at dksX5_mayLight_2 7 rfl rfl)
theorem dX5_mayLight_55 : decode cX5_mayLight 55 = .ok (.getfield 56, 3) := dk_180 0 56 (dk_at dksX5_mayLight_2 8 rfl rfl)
theorem dX5_mayLight_58 : decode cX5_mayLight 58 = .ok (.iload 4, 2) := dk_21 4 (dk_at dksX5_mayLight_2 11 rfl rfl)
theorem dX5_mayLight_60 : decode cX5_mayLight 60 = .ok (.invokestatic 140, 3) := dk_184 0 140 (dk_at dksX5_mayLight_2 13 rfl rfl)
theorem dX5_mayLight_63 : decode cX5_mayLight 63 = .ok (.ifCond .eq 71, 3) := dk_153 0 71 (dk_at dksX5_mayLight_2 16 rfl rfl)
theorem dX5_mayLight_66 : decode cX5_mayLight 66 = .ok (.aload_n 0, 1) := dk_42 (dk_at dksX5_mayLight_2 19 rfl rfl)
theorem dX5_mayLight_67 : decode cX5_mayLight 67 = .ok (.getfield 3, 3) := dk_180 0 3 (dk_at dksX5_mayLight_2 20 rfl rfl)
theorem dX5_mayLight_70 : decode cX5_mayLight 70 = .ok (.iload 4, 2) := dk_21 4 (dk_at dksX5_mayLight_3 0 rfl rfl)
theorem dX5_mayLight_72 : decode cX5_mayLight 72 = .ok (.invokevirtual 144, 3) := dk_182 0 144 (dk_at dksX5_mayLight_3 2 rfl rfl)
theorem dX5_mayLight_75 : decode cX5_mayLight 75 = .ok (.getfield 148, 3) := dk_180 0 148 (dk_at dksX5_mayLight_3 5 rfl rfl)
theorem dX5_mayLight_78 : decode cX5_mayLight 78 = .ok (.iload_n 1, 1) := dk_27 (dk_at dksX5_mayLight_3 8 rfl rfl)
theorem dX5_mayLight_79 : decode cX5_mayLight 79 = .ok (.if_icmp .ne 19, 3) := dk_160 0 19 (dk_at dksX5_mayLight_3 9 rfl rfl)
theorem dX5_mayLight_82 : decode cX5_mayLight 82 = .ok (.aload_n 0, 1) := dk_42 (dk_at dksX5_mayLight_3 12 rfl rfl)
theorem dX5_mayLight_83 : decode cX5_mayLight 83 = .ok (.getfield 3, 3) := dk_180 0 3 (dk_at dksX5_mayLight_3 13 rfl rfl)
theorem dX5_mayLight_86 : decode cX5_mayLight 86 = .ok (.iload 4, 2) := dk_21 4 (dk_at dksX5_mayLight_3 16 rfl rfl)
theorem dX5_mayLight_88 : decode cX5_mayLight 88 = .ok (.invokevirtual 144, 3) := dk_182 0 144 (dk_at dksX5_mayLight_3 18 rfl rfl)
theorem dX5_mayLight_91 : decode cX5_mayLight 91 = .ok (.getfield 153, 3) := dk_180 0 153 (dk_at dksX5_mayLight_3 21 rfl rfl)
theorem dX5_mayLight_94 : decode cX5_mayLight 94 = .ok (.iload_n 2, 1) := dk_28 (dk_at dksX5_mayLight_4 0 rfl rfl)
theorem dX5_mayLight_95 : decode cX5_mayLight 95 = .ok (.if_icmp .eq 35, 3) := dk_159 0 35 (dk_at dksX5_mayLight_4 1 rfl rfl)
theorem dX5_mayLight_98 : decode cX5_mayLight 98 = .ok (.aload_n 0, 1) := dk_42 (dk_at dksX5_mayLight_4 4 rfl rfl)
theorem dX5_mayLight_99 : decode cX5_mayLight 99 = .ok (.getfield 3, 3) := dk_180 0 3 (dk_at dksX5_mayLight_4 5 rfl rfl)
theorem dX5_mayLight_102 : decode cX5_mayLight 102 = .ok (.iload 4, 2) := dk_21 4 (dk_at dksX5_mayLight_4 8 rfl rfl)
theorem dX5_mayLight_104 : decode cX5_mayLight 104 = .ok (.invokevirtual 144, 3) := dk_182 0 144 (dk_at dksX5_mayLight_4 10 rfl rfl)
theorem dX5_mayLight_107 : decode cX5_mayLight 107 = .ok (.getfield 148, 3) := dk_180 0 148 (dk_at dksX5_mayLight_4 13 rfl rfl)
theorem dX5_mayLight_110 : decode cX5_mayLight 110 = .ok (.iload_n 2, 1) := dk_28 (dk_at dksX5_mayLight_4 16 rfl rfl)
theorem dX5_mayLight_111 : decode cX5_mayLight 111 = .ok (.if_icmp .ne 23, 3) := dk_160 0 23 (dk_at dksX5_mayLight_4 17 rfl rfl)
theorem dX5_mayLight_114 : decode cX5_mayLight 114 = .ok (.aload_n 0, 1) := dk_42 (dk_at dksX5_mayLight_4 20 rfl rfl)
theorem dX5_mayLight_115 : decode cX5_mayLight 115 = .ok (.getfield 3, 3) := dk_180 0 3 (dk_at dksX5_mayLight_4 21 rfl rfl)
theorem dX5_mayLight_118 : decode cX5_mayLight 118 = .ok (.iload 4, 2) := dk_21 4 (dk_at dksX5_mayLight_5 0 rfl rfl)
theorem dX5_mayLight_120 : decode cX5_mayLight 120 = .ok (.invokevirtual 144, 3) := dk_182 0 144 (dk_at dksX5_mayLight_5 2 rfl rfl)
theorem dX5_mayLight_123 : decode cX5_mayLight 123 = .ok (.getfield 153, 3) := dk_180 0 153 (dk_at dksX5_mayLight_5 5 rfl rfl)
theorem dX5_mayLight_126 : decode cX5_mayLight 126 = .ok (.iload_n 1, 1) := dk_27 (dk_at dksX5_mayLight_5 8 rfl rfl)
theorem dX5_mayLight_127 : decode cX5_mayLight 127 = .ok (.if_icmp .ne 7, 3) := dk_160 0 7 (dk_at dksX5_mayLight_5 9 rfl rfl)
theorem dX5_mayLight_130 : decode cX5_mayLight 130 = .ok (.iconst 1, 1) := dk_4 (dk_at dksX5_mayLight_5 12 rfl rfl)
theorem dX5_mayLight_131 : decode cX5_mayLight 131 = .ok (.goto 4, 3) := dk_167 0 4 (dk_at dksX5_mayLight_5 13 rfl rfl)
theorem dX5_mayLight_134 : decode cX5_mayLight 134 = .ok (.iconst 0, 1) := dk_3 (dk_at dksX5_mayLight_5 16 rfl rfl)
theorem dX5_mayLight_135 : decode cX5_mayLight 135 = .ok (.ior, 1) := dk_128 (dk_at dksX5_mayLight_5 17 rfl rfl)
theorem dX5_mayLight_136 : decode cX5_mayLight 136 = .ok (.istore_n 3, 1) := dk_62 (dk_at dksX5_mayLight_5 18 rfl rfl)
theorem dX5_mayLight_137 : decode cX5_mayLight 137 = .ok (.iinc 4 1, 3) := dk_132 4 1 (dk_at dksX5_mayLight_5 19 rfl rfl)
theorem dX5_mayLight_140 : decode cX5_mayLight 140 = .ok (.goto (-99), 3) := dk_167 255 157 (dk_at dksX5_mayLight_6 0 rfl rfl)
theorem dX5_mayLight_143 : decode cX5_mayLight 143 = .ok (.iload_n 3, 1) := dk_29 (dk_at dksX5_mayLight_6 3 rfl rfl)
theorem dX5_mayLight_144 : decode cX5_mayLight 144 = .ok (.ireturn, 1) := dk_172 (dk_at dksX5_mayLight_6 4 rfl rfl)
abbrev cX5_blows : ByteArray := prog_18_method_15_code
def yX5_blows : MethodName := ⟨RX5, "blows", "(I)V"⟩
def dkwX5_blows_1 : List UInt8 := [184, 0, 159, 79, 42, 180, 0, 15, 27, 46, 154, 0, 9, 42, 27, 6, 182, 0, 134, 177]
abbrev dktX5_blows_1 : List UInt8 := dkwX5_blows_1 ++ []
def dkwX5_blows_0 : List UInt8 := [42, 27, 182, 0, 73, 154, 0, 4, 177, 42, 180, 0, 15, 27, 3, 42, 180, 0, 15, 27, 46, 16, 10, 100]
abbrev dktX5_blows_0 : List UInt8 := dkwX5_blows_0 ++ dktX5_blows_1
theorem dksX5_blows_0 : cX5_blows.data.toList.drop 0 = dktX5_blows_0 := by decide +kernel
theorem dksX5_blows_1 : cX5_blows.data.toList.drop 24 = dktX5_blows_1 := dk_seg dksX5_blows_0 24 rfl rfl
theorem dX5_blows_0 : decode cX5_blows 0 = .ok (.aload_n 0, 1) := dk_42 (dk_at dksX5_blows_0 0 rfl rfl)
theorem dX5_blows_1 : decode cX5_blows 1 = .ok (.iload_n 1, 1) := dk_27 (dk_at dksX5_blows_0 1 rfl rfl)
theorem dX5_blows_2 : decode cX5_blows 2 = .ok (.invokevirtual 73, 3) := dk_182 0 73 (dk_at dksX5_blows_0 2 rfl rfl)
theorem dX5_blows_5 : decode cX5_blows 5 = .ok (.ifCond .ne 4, 3) := dk_154 0 4 (dk_at dksX5_blows_0 5 rfl rfl)
theorem dX5_blows_8 : decode cX5_blows 8 = .ok (.return_, 1) := dk_177 (dk_at dksX5_blows_0 8 rfl rfl)
theorem dX5_blows_9 : decode cX5_blows 9 = .ok (.aload_n 0, 1) := dk_42 (dk_at dksX5_blows_0 9 rfl rfl)
theorem dX5_blows_10 : decode cX5_blows 10 = .ok (.getfield 15, 3) := dk_180 0 15 (dk_at dksX5_blows_0 10 rfl rfl)
theorem dX5_blows_13 : decode cX5_blows 13 = .ok (.iload_n 1, 1) := dk_27 (dk_at dksX5_blows_0 13 rfl rfl)
theorem dX5_blows_14 : decode cX5_blows 14 = .ok (.iconst 0, 1) := dk_3 (dk_at dksX5_blows_0 14 rfl rfl)
theorem dX5_blows_15 : decode cX5_blows 15 = .ok (.aload_n 0, 1) := dk_42 (dk_at dksX5_blows_0 15 rfl rfl)
theorem dX5_blows_16 : decode cX5_blows 16 = .ok (.getfield 15, 3) := dk_180 0 15 (dk_at dksX5_blows_0 16 rfl rfl)
theorem dX5_blows_19 : decode cX5_blows 19 = .ok (.iload_n 1, 1) := dk_27 (dk_at dksX5_blows_0 19 rfl rfl)
theorem dX5_blows_20 : decode cX5_blows 20 = .ok (.iaload, 1) := dk_46 (dk_at dksX5_blows_0 20 rfl rfl)
theorem dX5_blows_21 : decode cX5_blows 21 = .ok (.bipush 10, 2) := dk_16 10 (dk_at dksX5_blows_0 21 rfl rfl)
theorem dX5_blows_23 : decode cX5_blows 23 = .ok (.isub, 1) := dk_100 (dk_at dksX5_blows_0 23 rfl rfl)
theorem dX5_blows_24 : decode cX5_blows 24 = .ok (.invokestatic 159, 3) := dk_184 0 159 (dk_at dksX5_blows_1 0 rfl rfl)
theorem dX5_blows_27 : decode cX5_blows 27 = .ok (.iastore, 1) := dk_79 (dk_at dksX5_blows_1 3 rfl rfl)
theorem dX5_blows_28 : decode cX5_blows 28 = .ok (.aload_n 0, 1) := dk_42 (dk_at dksX5_blows_1 4 rfl rfl)
theorem dX5_blows_29 : decode cX5_blows 29 = .ok (.getfield 15, 3) := dk_180 0 15 (dk_at dksX5_blows_1 5 rfl rfl)
theorem dX5_blows_32 : decode cX5_blows 32 = .ok (.iload_n 1, 1) := dk_27 (dk_at dksX5_blows_1 8 rfl rfl)
theorem dX5_blows_33 : decode cX5_blows 33 = .ok (.iaload, 1) := dk_46 (dk_at dksX5_blows_1 9 rfl rfl)
theorem dX5_blows_34 : decode cX5_blows 34 = .ok (.ifCond .ne 9, 3) := dk_154 0 9 (dk_at dksX5_blows_1 10 rfl rfl)
theorem dX5_blows_37 : decode cX5_blows 37 = .ok (.aload_n 0, 1) := dk_42 (dk_at dksX5_blows_1 13 rfl rfl)
theorem dX5_blows_38 : decode cX5_blows 38 = .ok (.iload_n 1, 1) := dk_27 (dk_at dksX5_blows_1 14 rfl rfl)
theorem dX5_blows_39 : decode cX5_blows 39 = .ok (.iconst 3, 1) := dk_6 (dk_at dksX5_blows_1 15 rfl rfl)
theorem dX5_blows_40 : decode cX5_blows 40 = .ok (.invokevirtual 134, 3) := dk_182 0 134 (dk_at dksX5_blows_1 16 rfl rfl)
theorem dX5_blows_43 : decode cX5_blows 43 = .ok (.return_, 1) := dk_177 (dk_at dksX5_blows_1 19 rfl rfl)
theorem q178 : (Jvm.Cond.initialized "FirstSnuffer$State") ∈ lw_all := lw_g (lw_at lw_m1 12 rfl) rfl
theorem q252 : (Jvm.Cond.fieldLinkNest "FirstSnuffer$State" (44 : Nat) "FirstSnuffer$Household" "start" "I" "FirstSnuffer") ∈ lw_tbl := lw_at lw_m1 86 rfl
theorem q268 : (Jvm.Cond.fieldLinkNest "FirstSnuffer$State" (94 : Nat) "FirstSnuffer$Household" "burns" "LFirstSnuffer$Value;" "FirstSnuffer") ∈ lw_tbl := lw_at lw_m1 102 rfl
theorem q270 : (Jvm.Cond.fieldLinkNest "FirstSnuffer$State" (111 : Nat) "FirstSnuffer$Household" "minds" "LFirstSnuffer$Test;" "FirstSnuffer") ∈ lw_tbl := lw_at lw_m1 104 rfl
theorem q403 : (Jvm.Cond.fieldLinkNest "FirstSnuffer$State" (84 : Nat) "FirstSnuffer$Moment" "of" "[J" "FirstSnuffer") ∈ lw_tbl := lw_at lw_m1 237 rfl
theorem q412 : (Jvm.Cond.instantiable "FirstSnuffer$State" (10 : Nat)) ∈ lw_all := lw_g (lw_at lw_m2 6 rfl) rfl
theorem q414 : (Jvm.Cond.instanceMethod ({ cls := "FirstSnuffer$State", name := "<init>", desc := "(LFirstSnuffer;)V" } : Jvm.MethodName)) ∈ lw_all := lw_g (lw_at lw_m2 8 rfl) rfl
theorem q415 : (Jvm.Cond.code ({ cls := "FirstSnuffer$State", name := "<init>", desc := "(LFirstSnuffer;)V" } : Jvm.MethodName) prog_18_method_1_code (2 : Nat) (Option.none : Option Jvm.ClassFile.FieldType)) ∈ lw_all := lw_g (lw_at lw_m2 9 rfl) rfl
theorem q416 : (Jvm.Cond.methodLink "FirstSnuffer$State" (9 : Nat) ({ cls := "java/lang/Object", name := "<init>", desc := "()V" } : Jvm.MethodName)) ∈ lw_all := lw_g (lw_at lw_m2 10 rfl) rfl
theorem q417 : (Jvm.Cond.classLink "FirstSnuffer$State" (28 : Nat) "[[I") ∈ lw_all := lw_g (lw_at lw_m2 11 rfl) rfl
theorem q418 : (Jvm.Cond.fieldLink "FirstSnuffer$State" (33 : Nat) "FirstSnuffer$State" "hour" "I") ∈ lw_all := lw_g (lw_at lw_m2 12 rfl) rfl
theorem q420 : (Jvm.Cond.fieldLink "FirstSnuffer$State" (37 : Nat) "FirstSnuffer$State" "keeps" "I") ∈ lw_all := lw_g (lw_at lw_m2 14 rfl) rfl
theorem q422 : (Jvm.Cond.fieldLink "FirstSnuffer$State" (49 : Nat) "FirstSnuffer$State" "at" "I") ∈ lw_all := lw_g (lw_at lw_m2 16 rfl) rfl
theorem q424 : (Jvm.Cond.fieldLink "FirstSnuffer$State" (56 : Nat) "FirstSnuffer$State" "tied" "I") ∈ lw_all := lw_g (lw_at lw_m2 18 rfl) rfl
theorem q426 : (Jvm.Cond.fieldLink "FirstSnuffer$State" (15 : Nat) "FirstSnuffer$State" "strength" "[I") ∈ lw_all := lw_g (lw_at lw_m2 20 rfl) rfl
theorem q428 : (Jvm.Cond.fieldLink "FirstSnuffer$State" (19 : Nat) "FirstSnuffer$State" "next" "[I") ∈ lw_all := lw_g (lw_at lw_m2 22 rfl) rfl
theorem q429 : (Jvm.Cond.fieldLink "FirstSnuffer$State" (22 : Nat) "FirstSnuffer$State" "smell" "[I") ∈ lw_all := lw_g (lw_at lw_m2 23 rfl) rfl
theorem q431 : (Jvm.Cond.fieldLink "FirstSnuffer$State" (25 : Nat) "FirstSnuffer$State" "hot" "[I") ∈ lw_all := lw_g (lw_at lw_m2 25 rfl) rfl
theorem q433 : (Jvm.Cond.fieldLink "FirstSnuffer$State" (30 : Nat) "FirstSnuffer$State" "rows" "[[I") ∈ lw_all := lw_g (lw_at lw_m2 27 rfl) rfl
theorem q435 : (Jvm.Cond.fieldLink "FirstSnuffer$State" (3 : Nat) "FirstSnuffer$State" "this$0" "LFirstSnuffer;") ∈ lw_all := lw_g (lw_at lw_m2 29 rfl) rfl
theorem q436 : (Jvm.Cond.lays "FirstSnuffer$State" "FirstSnuffer$State" "hour" "I") ∈ lw_all := lw_g (lw_at lw_m2 30 rfl) rfl
theorem q437 : (Jvm.Cond.soleField "FirstSnuffer$State" "hour") ∈ lw_all := lw_g (lw_at lw_m2 31 rfl) rfl
theorem q438 : (Jvm.Cond.lays "FirstSnuffer$State" "FirstSnuffer$State" "keeps" "I") ∈ lw_all := lw_g (lw_at lw_m2 32 rfl) rfl
theorem q439 : (Jvm.Cond.soleField "FirstSnuffer$State" "keeps") ∈ lw_all := lw_g (lw_at lw_m2 33 rfl) rfl
theorem q440 : (Jvm.Cond.lays "FirstSnuffer$State" "FirstSnuffer$State" "at" "I") ∈ lw_all := lw_g (lw_at lw_m2 34 rfl) rfl
theorem q441 : (Jvm.Cond.soleField "FirstSnuffer$State" "at") ∈ lw_all := lw_g (lw_at lw_m2 35 rfl) rfl
theorem q442 : (Jvm.Cond.lays "FirstSnuffer$State" "FirstSnuffer$State" "tied" "I") ∈ lw_all := lw_g (lw_at lw_m2 36 rfl) rfl
theorem q443 : (Jvm.Cond.soleField "FirstSnuffer$State" "tied") ∈ lw_all := lw_g (lw_at lw_m2 37 rfl) rfl
theorem q444 : (Jvm.Cond.laysFinal "FirstSnuffer$State" "FirstSnuffer$State" "strength" "[I") ∈ lw_all := lw_g (lw_at lw_m2 38 rfl) rfl
theorem q445 : (Jvm.Cond.soleField "FirstSnuffer$State" "strength") ∈ lw_all := lw_g (lw_at lw_m2 39 rfl) rfl
theorem q446 : (Jvm.Cond.laysFinal "FirstSnuffer$State" "FirstSnuffer$State" "next" "[I") ∈ lw_all := lw_g (lw_at lw_m2 40 rfl) rfl
theorem q447 : (Jvm.Cond.soleField "FirstSnuffer$State" "next") ∈ lw_all := lw_g (lw_at lw_m2 41 rfl) rfl
theorem q448 : (Jvm.Cond.laysFinal "FirstSnuffer$State" "FirstSnuffer$State" "smell" "[I") ∈ lw_all := lw_g (lw_at lw_m2 42 rfl) rfl
theorem q449 : (Jvm.Cond.soleField "FirstSnuffer$State" "smell") ∈ lw_all := lw_g (lw_at lw_m2 43 rfl) rfl
theorem q450 : (Jvm.Cond.laysFinal "FirstSnuffer$State" "FirstSnuffer$State" "hot" "[I") ∈ lw_all := lw_g (lw_at lw_m2 44 rfl) rfl
theorem q451 : (Jvm.Cond.soleField "FirstSnuffer$State" "hot") ∈ lw_all := lw_g (lw_at lw_m2 45 rfl) rfl
theorem q452 : (Jvm.Cond.laysFinal "FirstSnuffer$State" "FirstSnuffer$State" "rows" "[[I") ∈ lw_all := lw_g (lw_at lw_m2 46 rfl) rfl
theorem q453 : (Jvm.Cond.soleField "FirstSnuffer$State" "rows") ∈ lw_all := lw_g (lw_at lw_m2 47 rfl) rfl
theorem q454 : (Jvm.Cond.laysFinal "FirstSnuffer$State" "FirstSnuffer$State" "this$0" "LFirstSnuffer;") ∈ lw_all := lw_g (lw_at lw_m2 48 rfl) rfl
theorem q455 : (Jvm.Cond.soleField "FirstSnuffer$State" "this$0") ∈ lw_all := lw_g (lw_at lw_m2 49 rfl) rfl
theorem q456 : (Jvm.Cond.superclass "FirstSnuffer$State" "java/lang/Object") ∈ lw_all := lw_g (lw_at lw_m2 50 rfl) rfl
theorem q499 : (Jvm.Cond.fieldLinkNest "FirstSnuffer$State" (40 : Nat) "FirstSnuffer" "household" "LFirstSnuffer$Household;" "FirstSnuffer") ∈ lw_tbl := lw_at lw_m2 93 rfl
theorem q507 : (Jvm.Cond.fieldLinkNest "FirstSnuffer$State" (80 : Nat) "FirstSnuffer" "moment" "LFirstSnuffer$Moment;" "FirstSnuffer") ∈ lw_tbl := lw_at lw_m2 101 rfl
theorem q899 : (Jvm.Cond.selects "FirstSnuffer$State" ({ cls := "java/lang/Object", name := "getClass", desc := "()Ljava/lang/Class;" } : Jvm.MethodName) ({ cls := "java/lang/Object", name := "getClass", desc := "()Ljava/lang/Class;" } : Jvm.MethodName)) ∈ lw_all := lw_g (lw_at lw_m4 13 rfl) rfl
theorem q977 : (Jvm.Cond.fieldLinkNest "FirstSnuffer$State" (77 : Nat) "FirstSnuffer$Burning" "hall" "I" "FirstSnuffer") ∈ lw_tbl := lw_at lw_m4 91 rfl
theorem q980 : (Jvm.Cond.fieldLinkNest "FirstSnuffer$State" (66 : Nat) "FirstSnuffer$Burning" "strength" "I" "FirstSnuffer") ∈ lw_tbl := lw_at lw_m4 94 rfl
theorem q982 : (Jvm.Cond.fieldLinkNest "FirstSnuffer$State" (70 : Nat) "FirstSnuffer$Burning" "heat" "I" "FirstSnuffer") ∈ lw_tbl := lw_at lw_m4 96 rfl
theorem q1013 : (Jvm.Cond.fieldLinkNest "FirstSnuffer$State" (148 : Nat) "FirstSnuffer$Tie" "from" "I" "FirstSnuffer") ∈ lw_tbl := lw_at lw_m4 127 rfl
theorem q1017 : (Jvm.Cond.fieldLinkNest "FirstSnuffer$State" (153 : Nat) "FirstSnuffer$Tie" "to" "I" "FirstSnuffer") ∈ lw_tbl := lw_at lw_m4 131 rfl
theorem q1298 : (Jvm.Cond.instanceMethod ({ cls := "FirstSnuffer$State", name := "begins", desc := "()V" } : Jvm.MethodName)) ∈ lw_all := lw_g (lw_at lw_m5 172 rfl) rfl
theorem q1299 : (Jvm.Cond.selects "FirstSnuffer$State" ({ cls := "FirstSnuffer$State", name := "begins", desc := "()V" } : Jvm.MethodName) ({ cls := "FirstSnuffer$State", name := "begins", desc := "()V" } : Jvm.MethodName)) ∈ lw_all := lw_g (lw_at lw_m5 173 rfl) rfl
theorem q1300 : (Jvm.Cond.code ({ cls := "FirstSnuffer$State", name := "begins", desc := "()V" } : Jvm.MethodName) prog_18_method_2_code (2 : Nat) (Option.none : Option Jvm.ClassFile.FieldType)) ∈ lw_all := lw_g (lw_at lw_m5 174 rfl) rfl
theorem q1301 : (Jvm.Cond.methodLinkNest "FirstSnuffer$State" (52 : Nat) ({ cls := "FirstSnuffer", name := "ties", desc := "()I" } : Jvm.MethodName) "FirstSnuffer") ∈ lw_tbl := lw_at lw_m5 175 rfl
theorem q1305 : (Jvm.Cond.methodLinkNest "FirstSnuffer$State" (59 : Nat) ({ cls := "FirstSnuffer", name := "things", desc := "()I" } : Jvm.MethodName) "FirstSnuffer") ∈ lw_tbl := lw_at lw_m5 179 rfl
theorem q1309 : (Jvm.Cond.methodLinkNest "FirstSnuffer$State" (62 : Nat) ({ cls := "FirstSnuffer", name := "thingOf", desc := "(I)LFirstSnuffer$Burning;" } : Jvm.MethodName) "FirstSnuffer") ∈ lw_tbl := lw_at lw_m5 183 rfl
theorem q1329 : (Jvm.Cond.instanceMethod ({ cls := "FirstSnuffer$State", name := "lit", desc := "()I" } : Jvm.MethodName)) ∈ lw_all := lw_g (lw_at lw_m5 203 rfl) rfl
theorem q1330 : (Jvm.Cond.selects "FirstSnuffer$State" ({ cls := "FirstSnuffer$State", name := "lit", desc := "()I" } : Jvm.MethodName) ({ cls := "FirstSnuffer$State", name := "lit", desc := "()I" } : Jvm.MethodName)) ∈ lw_all := lw_g (lw_at lw_m5 204 rfl) rfl
theorem q1331 : (Jvm.Cond.code ({ cls := "FirstSnuffer$State", name := "lit", desc := "()I" } : Jvm.MethodName) prog_18_method_18_code (3 : Nat) (Option.some Jvm.ClassFile.FieldType.int)) ∈ lw_all := lw_g (lw_at lw_m5 205 rfl) rfl
theorem q1332 : (Jvm.Cond.methodLink "FirstSnuffer$State" (73 : Nat) ({ cls := "FirstSnuffer$State", name := "isLit", desc := "(I)Z" } : Jvm.MethodName)) ∈ lw_all := lw_g (lw_at lw_m5 206 rfl) rfl
theorem q1333 : (Jvm.Cond.instanceMethod ({ cls := "FirstSnuffer$State", name := "isLit", desc := "(I)Z" } : Jvm.MethodName)) ∈ lw_all := lw_g (lw_at lw_m5 207 rfl) rfl
theorem q1334 : (Jvm.Cond.selects "FirstSnuffer$State" ({ cls := "FirstSnuffer$State", name := "isLit", desc := "(I)Z" } : Jvm.MethodName) ({ cls := "FirstSnuffer$State", name := "isLit", desc := "(I)Z" } : Jvm.MethodName)) ∈ lw_all := lw_g (lw_at lw_m5 208 rfl) rfl
theorem q1335 : (Jvm.Cond.code ({ cls := "FirstSnuffer$State", name := "isLit", desc := "(I)Z" } : Jvm.MethodName) prog_18_method_4_code (2 : Nat) (Option.some Jvm.ClassFile.FieldType.boolean)) ∈ lw_all := lw_g (lw_at lw_m5 209 rfl) rfl
theorem q1376 : (Jvm.Cond.instanceMethod ({ cls := "FirstSnuffer$State", name := "isMinding", desc := "(I)Z" } : Jvm.MethodName)) ∈ lw_all := lw_g (lw_at lw_m6 10 rfl) rfl
theorem q1377 : (Jvm.Cond.selects "FirstSnuffer$State" ({ cls := "FirstSnuffer$State", name := "isMinding", desc := "(I)Z" } : Jvm.MethodName) ({ cls := "FirstSnuffer$State", name := "isMinding", desc := "(I)Z" } : Jvm.MethodName)) ∈ lw_all := lw_g (lw_at lw_m6 11 rfl) rfl
theorem q1378 : (Jvm.Cond.code ({ cls := "FirstSnuffer$State", name := "isMinding", desc := "(I)Z" } : Jvm.MethodName) prog_18_method_8_code (2 : Nat) (Option.some Jvm.ClassFile.FieldType.boolean)) ∈ lw_all := lw_g (lw_at lw_m6 12 rfl) rfl
theorem q1379 : (Jvm.Cond.methodLink "FirstSnuffer$State" (98 : Nat) ({ cls := "FirstSnuffer$State", name := "asks", desc := "(I)V" } : Jvm.MethodName)) ∈ lw_all := lw_g (lw_at lw_m6 13 rfl) rfl
theorem q1380 : (Jvm.Cond.privateMethod ({ cls := "FirstSnuffer$State", name := "asks", desc := "(I)V" } : Jvm.MethodName)) ∈ lw_tbl := lw_at lw_m6 14 rfl
theorem q1381 : (Jvm.Cond.instanceMethod ({ cls := "FirstSnuffer$State", name := "asks", desc := "(I)V" } : Jvm.MethodName)) ∈ lw_all := lw_g (lw_at lw_m6 15 rfl) rfl
theorem q1382 : (Jvm.Cond.code ({ cls := "FirstSnuffer$State", name := "asks", desc := "(I)V" } : Jvm.MethodName) prog_18_method_6_code (2 : Nat) (Option.none : Option Jvm.ClassFile.FieldType)) ∈ lw_all := lw_g (lw_at lw_m6 16 rfl) rfl
theorem q1383 : (Jvm.Cond.methodLink "FirstSnuffer$State" (90 : Nat) ({ cls := "FirstSnuffer$State", name := "nearby", desc := "(I)I" } : Jvm.MethodName)) ∈ lw_all := lw_g (lw_at lw_m6 17 rfl) rfl
theorem q1384 : (Jvm.Cond.privateMethod ({ cls := "FirstSnuffer$State", name := "nearby", desc := "(I)I" } : Jvm.MethodName)) ∈ lw_tbl := lw_at lw_m6 18 rfl
theorem q1385 : (Jvm.Cond.instanceMethod ({ cls := "FirstSnuffer$State", name := "nearby", desc := "(I)I" } : Jvm.MethodName)) ∈ lw_all := lw_g (lw_at lw_m6 19 rfl) rfl
theorem q1386 : (Jvm.Cond.code ({ cls := "FirstSnuffer$State", name := "nearby", desc := "(I)I" } : Jvm.MethodName) prog_18_method_5_code (4 : Nat) (Option.some Jvm.ClassFile.FieldType.int)) ∈ lw_all := lw_g (lw_at lw_m6 20 rfl) rfl
theorem q1387 : (Jvm.Cond.methodLink "FirstSnuffer$State" (115 : Nat) ({ cls := "FirstSnuffer$Test", name := "holds", desc := "(LFirstSnuffer$Moment;)Z" } : Jvm.MethodName)) ∈ lw_all := lw_g (lw_at lw_m6 21 rfl) rfl
theorem q1444 : (Jvm.Cond.instanceMethod ({ cls := "FirstSnuffer$State", name := "along", desc := "(I)I" } : Jvm.MethodName)) ∈ lw_all := lw_g (lw_at lw_m6 78 rfl) rfl
theorem q1445 : (Jvm.Cond.selects "FirstSnuffer$State" ({ cls := "FirstSnuffer$State", name := "along", desc := "(I)I" } : Jvm.MethodName) ({ cls := "FirstSnuffer$State", name := "along", desc := "(I)I" } : Jvm.MethodName)) ∈ lw_all := lw_g (lw_at lw_m6 79 rfl) rfl
theorem q1446 : (Jvm.Cond.code ({ cls := "FirstSnuffer$State", name := "along", desc := "(I)I" } : Jvm.MethodName) prog_18_method_13_code (6 : Nat) (Option.some Jvm.ClassFile.FieldType.int)) ∈ lw_all := lw_g (lw_at lw_m6 80 rfl) rfl
theorem q1447 : (Jvm.Cond.methodLinkNest "FirstSnuffer$State" (140 : Nat) ({ cls := "FirstSnuffer", name := "has", desc := "(II)Z" } : Jvm.MethodName) "FirstSnuffer") ∈ lw_tbl := lw_at lw_m6 81 rfl
theorem q1448 : (Jvm.Cond.methodLinkNest "FirstSnuffer$State" (144 : Nat) ({ cls := "FirstSnuffer", name := "tieOf", desc := "(I)LFirstSnuffer$Tie;" } : Jvm.MethodName) "FirstSnuffer") ∈ lw_tbl := lw_at lw_m6 82 rfl
theorem q1518 : (Jvm.Cond.instanceMethod ({ cls := "FirstSnuffer$State", name := "copy", desc := "(LFirstSnuffer$State;)LFirstSnuffer$State;" } : Jvm.MethodName)) ∈ lw_all := lw_g (lw_at lw_m6 152 rfl) rfl
theorem q1519 : (Jvm.Cond.selects "FirstSnuffer$State" ({ cls := "FirstSnuffer$State", name := "copy", desc := "(LFirstSnuffer$State;)LFirstSnuffer$State;" } : Jvm.MethodName) ({ cls := "FirstSnuffer$State", name := "copy", desc := "(LFirstSnuffer$State;)LFirstSnuffer$State;" } : Jvm.MethodName)) ∈ lw_all := lw_g (lw_at lw_m6 153 rfl) rfl
theorem q1520 : (Jvm.Cond.code ({ cls := "FirstSnuffer$State", name := "copy", desc := "(LFirstSnuffer$State;)LFirstSnuffer$State;" } : Jvm.MethodName) prog_18_method_3_code (4 : Nat) (Option.some (Jvm.ClassFile.FieldType.object "FirstSnuffer$State"))) ∈ lw_all := lw_g (lw_at lw_m6 154 rfl) rfl
theorem q1522 : (Jvm.Cond.instanceMethod ({ cls := "FirstSnuffer$State", name := "goesBy", desc := "(I)I" } : Jvm.MethodName)) ∈ lw_all := lw_g (lw_at lw_m6 156 rfl) rfl
theorem q1523 : (Jvm.Cond.selects "FirstSnuffer$State" ({ cls := "FirstSnuffer$State", name := "goesBy", desc := "(I)I" } : Jvm.MethodName) ({ cls := "FirstSnuffer$State", name := "goesBy", desc := "(I)I" } : Jvm.MethodName)) ∈ lw_all := lw_g (lw_at lw_m6 157 rfl) rfl
theorem q1524 : (Jvm.Cond.code ({ cls := "FirstSnuffer$State", name := "goesBy", desc := "(I)I" } : Jvm.MethodName) prog_18_method_12_code (4 : Nat) (Option.some Jvm.ClassFile.FieldType.int)) ∈ lw_all := lw_g (lw_at lw_m6 158 rfl) rfl
theorem q1525 : (Jvm.Cond.methodLink "FirstSnuffer$State" (137 : Nat) ({ cls := "FirstSnuffer$State", name := "goes", desc := "()I" } : Jvm.MethodName)) ∈ lw_all := lw_g (lw_at lw_m6 159 rfl) rfl
theorem q1526 : (Jvm.Cond.instanceMethod ({ cls := "FirstSnuffer$State", name := "goes", desc := "()I" } : Jvm.MethodName)) ∈ lw_all := lw_g (lw_at lw_m6 160 rfl) rfl
theorem q1527 : (Jvm.Cond.selects "FirstSnuffer$State" ({ cls := "FirstSnuffer$State", name := "goes", desc := "()I" } : Jvm.MethodName) ({ cls := "FirstSnuffer$State", name := "goes", desc := "()I" } : Jvm.MethodName)) ∈ lw_all := lw_g (lw_at lw_m6 161 rfl) rfl
theorem q1528 : (Jvm.Cond.code ({ cls := "FirstSnuffer$State", name := "goes", desc := "()I" } : Jvm.MethodName) prog_18_method_11_code (3 : Nat) (Option.some Jvm.ClassFile.FieldType.int)) ∈ lw_all := lw_g (lw_at lw_m6 162 rfl) rfl
theorem q1529 : (Jvm.Cond.methodLink "FirstSnuffer$State" (125 : Nat) ({ cls := "FirstSnuffer$State", name := "onward", desc := "(I)I" } : Jvm.MethodName)) ∈ lw_all := lw_g (lw_at lw_m6 163 rfl) rfl
theorem q1530 : (Jvm.Cond.privateMethod ({ cls := "FirstSnuffer$State", name := "onward", desc := "(I)I" } : Jvm.MethodName)) ∈ lw_tbl := lw_at lw_m6 164 rfl
theorem q1531 : (Jvm.Cond.instanceMethod ({ cls := "FirstSnuffer$State", name := "onward", desc := "(I)I" } : Jvm.MethodName)) ∈ lw_all := lw_g (lw_at lw_m6 165 rfl) rfl
theorem q1532 : (Jvm.Cond.code ({ cls := "FirstSnuffer$State", name := "onward", desc := "(I)I" } : Jvm.MethodName) prog_18_method_7_code (2 : Nat) (Option.some Jvm.ClassFile.FieldType.int)) ∈ lw_all := lw_g (lw_at lw_m6 166 rfl) rfl
theorem q1533 : (Jvm.Cond.methodLink "FirstSnuffer$State" (102 : Nat) ({ cls := "FirstSnuffer$Value", name := "at", desc := "(LFirstSnuffer$Moment;)J" } : Jvm.MethodName)) ∈ lw_all := lw_g (lw_at lw_m6 167 rfl) rfl
theorem q1534 : (Jvm.Cond.methodLinkNest "FirstSnuffer$State" (107 : Nat) ({ cls := "FirstSnuffer", name := "within", desc := "(JI)I" } : Jvm.MethodName) "FirstSnuffer") ∈ lw_tbl := lw_at lw_m6 168 rfl
theorem q1537 : (Jvm.Cond.methodLink "FirstSnuffer$State" (128 : Nat) ({ cls := "java/lang/Math", name := "min", desc := "(II)I" } : Jvm.MethodName)) ∈ lw_all := lw_g (lw_at lw_m6 171 rfl) rfl
theorem q1538 : (Jvm.Cond.methodLink "FirstSnuffer$State" (134 : Nat) ({ cls := "FirstSnuffer$State", name := "goesOut", desc := "(II)V" } : Jvm.MethodName)) ∈ lw_all := lw_g (lw_at lw_m6 172 rfl) rfl
theorem q1539 : (Jvm.Cond.privateMethod ({ cls := "FirstSnuffer$State", name := "goesOut", desc := "(II)V" } : Jvm.MethodName)) ∈ lw_tbl := lw_at lw_m6 173 rfl
theorem q1540 : (Jvm.Cond.instanceMethod ({ cls := "FirstSnuffer$State", name := "goesOut", desc := "(II)V" } : Jvm.MethodName)) ∈ lw_all := lw_g (lw_at lw_m6 174 rfl) rfl
theorem q1541 : (Jvm.Cond.code ({ cls := "FirstSnuffer$State", name := "goesOut", desc := "(II)V" } : Jvm.MethodName) prog_18_method_10_code (3 : Nat) (Option.none : Option Jvm.ClassFile.FieldType)) ∈ lw_all := lw_g (lw_at lw_m6 175 rfl) rfl
theorem q1542 : (Jvm.Cond.methodLink "FirstSnuffer$State" (121 : Nat) ({ cls := "FirstSnuffer$State", name := "tellsOf", desc := "(II)V" } : Jvm.MethodName)) ∈ lw_all := lw_g (lw_at lw_m6 176 rfl) rfl
theorem q1543 : (Jvm.Cond.privateMethod ({ cls := "FirstSnuffer$State", name := "tellsOf", desc := "(II)V" } : Jvm.MethodName)) ∈ lw_tbl := lw_at lw_m6 177 rfl
theorem q1544 : (Jvm.Cond.instanceMethod ({ cls := "FirstSnuffer$State", name := "tellsOf", desc := "(II)V" } : Jvm.MethodName)) ∈ lw_all := lw_g (lw_at lw_m6 178 rfl) rfl
theorem q1545 : (Jvm.Cond.code ({ cls := "FirstSnuffer$State", name := "tellsOf", desc := "(II)V" } : Jvm.MethodName) prog_18_method_9_code (5 : Nat) (Option.none : Option Jvm.ClassFile.FieldType)) ∈ lw_all := lw_g (lw_at lw_m6 179 rfl) rfl
theorem q1573 : (Jvm.Cond.instanceMethod ({ cls := "FirstSnuffer$State", name := "putsOut", desc := "(I)I" } : Jvm.MethodName)) ∈ lw_all := lw_g (lw_at lw_m6 207 rfl) rfl
theorem q1574 : (Jvm.Cond.selects "FirstSnuffer$State" ({ cls := "FirstSnuffer$State", name := "putsOut", desc := "(I)I" } : Jvm.MethodName) ({ cls := "FirstSnuffer$State", name := "putsOut", desc := "(I)I" } : Jvm.MethodName)) ∈ lw_all := lw_g (lw_at lw_m6 208 rfl) rfl
theorem q1575 : (Jvm.Cond.code ({ cls := "FirstSnuffer$State", name := "putsOut", desc := "(I)I" } : Jvm.MethodName) prog_18_method_14_code (5 : Nat) (Option.some Jvm.ClassFile.FieldType.int)) ∈ lw_all := lw_g (lw_at lw_m6 209 rfl) rfl
theorem q1576 : (Jvm.Cond.methodLink "FirstSnuffer$State" (156 : Nat) ({ cls := "FirstSnuffer$State", name := "along", desc := "(I)I" } : Jvm.MethodName)) ∈ lw_all := lw_g (lw_at lw_m6 210 rfl) rfl
theorem q1602 : (Jvm.Cond.instanceMethod ({ cls := "FirstSnuffer$State", name := "mayBeLit", desc := "(II)Z" } : Jvm.MethodName)) ∈ lw_all := lw_g (lw_at lw_m6 236 rfl) rfl
theorem q1603 : (Jvm.Cond.selects "FirstSnuffer$State" ({ cls := "FirstSnuffer$State", name := "mayBeLit", desc := "(II)Z" } : Jvm.MethodName) ({ cls := "FirstSnuffer$State", name := "mayBeLit", desc := "(II)Z" } : Jvm.MethodName)) ∈ lw_all := lw_g (lw_at lw_m6 237 rfl) rfl
theorem q1604 : (Jvm.Cond.code ({ cls := "FirstSnuffer$State", name := "mayBeLit", desc := "(II)Z" } : Jvm.MethodName) prog_18_method_17_code (4 : Nat) (Option.some Jvm.ClassFile.FieldType.boolean)) ∈ lw_all := lw_g (lw_at lw_m6 238 rfl) rfl
theorem q1605 : (Jvm.Cond.methodLink "FirstSnuffer$State" (162 : Nat) ({ cls := "FirstSnuffer$State", name := "mayLight", desc := "(II)Z" } : Jvm.MethodName)) ∈ lw_all := lw_g (lw_at lw_m6 239 rfl) rfl
theorem q1606 : (Jvm.Cond.privateMethod ({ cls := "FirstSnuffer$State", name := "mayLight", desc := "(II)Z" } : Jvm.MethodName)) ∈ lw_tbl := lw_at lw_m7 0 rfl
theorem q1607 : (Jvm.Cond.instanceMethod ({ cls := "FirstSnuffer$State", name := "mayLight", desc := "(II)Z" } : Jvm.MethodName)) ∈ lw_all := lw_g (lw_at lw_m7 1 rfl) rfl
theorem q1608 : (Jvm.Cond.code ({ cls := "FirstSnuffer$State", name := "mayLight", desc := "(II)Z" } : Jvm.MethodName) prog_18_method_16_code (5 : Nat) (Option.some Jvm.ClassFile.FieldType.boolean)) ∈ lw_all := lw_g (lw_at lw_m7 2 rfl) rfl
theorem q1614 : (Jvm.Cond.instanceMethod ({ cls := "FirstSnuffer$State", name := "blows", desc := "(I)V" } : Jvm.MethodName)) ∈ lw_all := lw_g (lw_at lw_m7 8 rfl) rfl
theorem q1615 : (Jvm.Cond.selects "FirstSnuffer$State" ({ cls := "FirstSnuffer$State", name := "blows", desc := "(I)V" } : Jvm.MethodName) ({ cls := "FirstSnuffer$State", name := "blows", desc := "(I)V" } : Jvm.MethodName)) ∈ lw_all := lw_g (lw_at lw_m7 9 rfl) rfl
theorem q1616 : (Jvm.Cond.code ({ cls := "FirstSnuffer$State", name := "blows", desc := "(I)V" } : Jvm.MethodName) prog_18_method_15_code (2 : Nat) (Option.none : Option Jvm.ClassFile.FieldType)) ∈ lw_all := lw_g (lw_at lw_m7 10 rfl) rfl
theorem q1617 : (Jvm.Cond.methodLink "FirstSnuffer$State" (159 : Nat) ({ cls := "java/lang/Math", name := "max", desc := "(II)I" } : Jvm.MethodName)) ∈ lw_all := lw_g (lw_at lw_m7 11 rfl) rfl
theorem q2672 : (Jvm.Cond.castable "FirstSnuffer$State" "java/lang/Object") ∈ lw_tbl := lw_at lw_m11 106 rfl
theorem in_X5 : ∀ w ∈ wsX50, w ∈ lw_all := lw_in wsX50 [436, 438, 440, 442, 444, 446, 448, 450, 452, 454] (by decide +kernel) (by decide +kernel)
