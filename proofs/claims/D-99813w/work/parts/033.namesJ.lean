/-! java/util/AbstractCollection -/
set_option maxRecDepth 100000
def RJ0 : String := "java/util/AbstractCollection"
abbrev cJ0_init : ByteArray := prog_45_method_1_code
def yJ0_init : MethodName := ⟨RJ0, "<init>", "()V"⟩
theorem dJ0_init_0 : decode cJ0_init 0 = .ok (.aload_n 0, 1) := by decide +kernel
theorem dJ0_init_1 : decode cJ0_init 1 = .ok (.invokespecial 1, 3) := by decide +kernel
theorem dJ0_init_4 : decode cJ0_init 4 = .ok (.return_, 1) := by decide +kernel
theorem q169 : (Jvm.Cond.initialized "java/util/AbstractCollection") ∈ lw_all := lw_g (lw_at lw_m1 3 rfl) rfl
theorem q231 : (Jvm.Cond.instanceMethod ({ cls := "java/util/AbstractCollection", name := "<init>", desc := "()V" } : Jvm.MethodName)) ∈ lw_all := lw_g (lw_at lw_m1 65 rfl) rfl
theorem q232 : (Jvm.Cond.code ({ cls := "java/util/AbstractCollection", name := "<init>", desc := "()V" } : Jvm.MethodName) prog_45_method_1_code (1 : Nat) (Option.none : Option Jvm.ClassFile.FieldType)) ∈ lw_all := lw_g (lw_at lw_m1 66 rfl) rfl
theorem q233 : (Jvm.Cond.methodLink "java/util/AbstractCollection" (1 : Nat) ({ cls := "java/lang/Object", name := "<init>", desc := "()V" } : Jvm.MethodName)) ∈ lw_all := lw_g (lw_at lw_m1 67 rfl) rfl
/-! java/util/AbstractList -/
set_option maxRecDepth 100000
def RJ1 : String := "java/util/AbstractList"
abbrev cJ1_init : ByteArray := prog_46_method_1_code
def yJ1_init : MethodName := ⟨RJ1, "<init>", "()V"⟩
def dkwJ1_init_0 : List UInt8 := [42, 183, 0, 1, 42, 3, 181, 0, 7, 177]
abbrev dktJ1_init_0 : List UInt8 := dkwJ1_init_0 ++ []
theorem dksJ1_init_0 : cJ1_init.data.toList.drop 0 = dktJ1_init_0 := by decide +kernel
theorem dJ1_init_0 : decode cJ1_init 0 = .ok (.aload_n 0, 1) := dk_42 (dk_at dksJ1_init_0 0 rfl rfl)
theorem dJ1_init_1 : decode cJ1_init 1 = .ok (.invokespecial 1, 3) := dk_183 0 1 (dk_at dksJ1_init_0 1 rfl rfl)
theorem dJ1_init_4 : decode cJ1_init 4 = .ok (.aload_n 0, 1) := dk_42 (dk_at dksJ1_init_0 4 rfl rfl)
theorem dJ1_init_5 : decode cJ1_init 5 = .ok (.iconst 0, 1) := dk_3 (dk_at dksJ1_init_0 5 rfl rfl)
theorem dJ1_init_6 : decode cJ1_init 6 = .ok (.putfield 7, 3) := dk_181 0 7 (dk_at dksJ1_init_0 6 rfl rfl)
theorem dJ1_init_9 : decode cJ1_init 9 = .ok (.return_, 1) := dk_177 (dk_at dksJ1_init_0 9 rfl rfl)
theorem q170 : (Jvm.Cond.initialized "java/util/AbstractList") ∈ lw_all := lw_g (lw_at lw_m1 4 rfl) rfl
theorem q228 : (Jvm.Cond.instanceMethod ({ cls := "java/util/AbstractList", name := "<init>", desc := "()V" } : Jvm.MethodName)) ∈ lw_all := lw_g (lw_at lw_m1 62 rfl) rfl
theorem q229 : (Jvm.Cond.code ({ cls := "java/util/AbstractList", name := "<init>", desc := "()V" } : Jvm.MethodName) prog_46_method_1_code (1 : Nat) (Option.none : Option Jvm.ClassFile.FieldType)) ∈ lw_all := lw_g (lw_at lw_m1 63 rfl) rfl
theorem q230 : (Jvm.Cond.methodLink "java/util/AbstractList" (1 : Nat) ({ cls := "java/util/AbstractCollection", name := "<init>", desc := "()V" } : Jvm.MethodName)) ∈ lw_all := lw_g (lw_at lw_m1 64 rfl) rfl
theorem q240 : (Jvm.Cond.fieldLink "java/util/AbstractList" (7 : Nat) "java/util/AbstractList" "modCount" "I") ∈ lw_all := lw_g (lw_at lw_m1 74 rfl) rfl
theorem q248 : (Jvm.Cond.soleField "java/util/AbstractList" "modCount") ∈ lw_all := lw_g (lw_at lw_m1 82 rfl) rfl
/-! java/lang/StringUTF16 -/
set_option maxRecDepth 100000
def RJ10 : String := "java/lang/StringUTF16"
abbrev cJ10_compress : ByteArray := prog_39_method_16_code
def yJ10_compress : MethodName := ⟨RJ10, "compress", "([CII)[B"⟩
def dkwJ10_compress_2 : List UInt8 := [184, 0, 123, 28, 159, 0, 6, 25, 5, 176, 45, 176]
abbrev dktJ10_compress_2 : List UInt8 := dkwJ10_compress_2 ++ []
def dkwJ10_compress_1 : List UInt8 := [184, 0, 119, 58, 5, 25, 5, 21, 4, 184, 0, 71, 17, 0, 255, 163, 0, 16, 25, 5, 3, 45, 3, 28]
abbrev dktJ10_compress_1 : List UInt8 := dkwJ10_compress_1 ++ dktJ10_compress_2
def dkwJ10_compress_0 : List UInt8 := [28, 188, 8, 78, 42, 27, 45, 3, 28, 184, 0, 115, 54, 4, 21, 4, 28, 159, 0, 40, 42, 27, 28]
abbrev dktJ10_compress_0 : List UInt8 := dkwJ10_compress_0 ++ dktJ10_compress_1
theorem dksJ10_compress_0 : cJ10_compress.data.toList.drop 0 = dktJ10_compress_0 := by decide +kernel
theorem dksJ10_compress_1 : cJ10_compress.data.toList.drop 23 = dktJ10_compress_1 := dk_seg dksJ10_compress_0 23 rfl rfl
theorem dksJ10_compress_2 : cJ10_compress.data.toList.drop 47 = dktJ10_compress_2 := dk_seg dksJ10_compress_1 24 rfl rfl
theorem dJ10_compress_0 : decode cJ10_compress 0 = .ok (.iload_n 2, 1) := dk_28 (dk_at dksJ10_compress_0 0 rfl rfl)
theorem dJ10_compress_1 : decode cJ10_compress 1 = .ok (.newarray .byte, 2) := dk_188_8 (dk_at dksJ10_compress_0 1 rfl rfl)
theorem dJ10_compress_3 : decode cJ10_compress 3 = .ok (.astore_n 3, 1) := dk_78 (dk_at dksJ10_compress_0 3 rfl rfl)
theorem dJ10_compress_4 : decode cJ10_compress 4 = .ok (.aload_n 0, 1) := dk_42 (dk_at dksJ10_compress_0 4 rfl rfl)
theorem dJ10_compress_5 : decode cJ10_compress 5 = .ok (.iload_n 1, 1) := dk_27 (dk_at dksJ10_compress_0 5 rfl rfl)
theorem dJ10_compress_6 : decode cJ10_compress 6 = .ok (.aload_n 3, 1) := dk_45 (dk_at dksJ10_compress_0 6 rfl rfl)
theorem dJ10_compress_7 : decode cJ10_compress 7 = .ok (.iconst 0, 1) := dk_3 (dk_at dksJ10_compress_0 7 rfl rfl)
theorem dJ10_compress_8 : decode cJ10_compress 8 = .ok (.iload_n 2, 1) := dk_28 (dk_at dksJ10_compress_0 8 rfl rfl)
theorem dJ10_compress_9 : decode cJ10_compress 9 = .ok (.invokestatic 115, 3) := dk_184 0 115 (dk_at dksJ10_compress_0 9 rfl rfl)
theorem dJ10_compress_12 : decode cJ10_compress 12 = .ok (.istore 4, 2) := dk_54 4 (dk_at dksJ10_compress_0 12 rfl rfl)
theorem dJ10_compress_14 : decode cJ10_compress 14 = .ok (.iload 4, 2) := dk_21 4 (dk_at dksJ10_compress_0 14 rfl rfl)
theorem dJ10_compress_16 : decode cJ10_compress 16 = .ok (.iload_n 2, 1) := dk_28 (dk_at dksJ10_compress_0 16 rfl rfl)
theorem dJ10_compress_17 : decode cJ10_compress 17 = .ok (.if_icmp .eq 40, 3) := dk_159 0 40 (dk_at dksJ10_compress_0 17 rfl rfl)
theorem dJ10_compress_20 : decode cJ10_compress 20 = .ok (.aload_n 0, 1) := dk_42 (dk_at dksJ10_compress_0 20 rfl rfl)
theorem dJ10_compress_21 : decode cJ10_compress 21 = .ok (.iload_n 1, 1) := dk_27 (dk_at dksJ10_compress_0 21 rfl rfl)
theorem dJ10_compress_22 : decode cJ10_compress 22 = .ok (.iload_n 2, 1) := dk_28 (dk_at dksJ10_compress_0 22 rfl rfl)
theorem dJ10_compress_23 : decode cJ10_compress 23 = .ok (.invokestatic 119, 3) := dk_184 0 119 (dk_at dksJ10_compress_1 0 rfl rfl)
theorem dJ10_compress_26 : decode cJ10_compress 26 = .ok (.astore 5, 2) := dk_58 5 (dk_at dksJ10_compress_1 3 rfl rfl)
theorem dJ10_compress_28 : decode cJ10_compress 28 = .ok (.aload 5, 2) := dk_25 5 (dk_at dksJ10_compress_1 5 rfl rfl)
theorem dJ10_compress_30 : decode cJ10_compress 30 = .ok (.iload 4, 2) := dk_21 4 (dk_at dksJ10_compress_1 7 rfl rfl)
theorem dJ10_compress_32 : decode cJ10_compress 32 = .ok (.invokestatic 71, 3) := dk_184 0 71 (dk_at dksJ10_compress_1 9 rfl rfl)
theorem dJ10_compress_35 : decode cJ10_compress 35 = .ok (.sipush 255, 3) := dk_17 0 255 (dk_at dksJ10_compress_1 12 rfl rfl)
theorem dJ10_compress_38 : decode cJ10_compress 38 = .ok (.if_icmp .gt 16, 3) := dk_163 0 16 (dk_at dksJ10_compress_1 15 rfl rfl)
theorem dJ10_compress_41 : decode cJ10_compress 41 = .ok (.aload 5, 2) := dk_25 5 (dk_at dksJ10_compress_1 18 rfl rfl)
theorem dJ10_compress_43 : decode cJ10_compress 43 = .ok (.iconst 0, 1) := dk_3 (dk_at dksJ10_compress_1 20 rfl rfl)
theorem dJ10_compress_44 : decode cJ10_compress 44 = .ok (.aload_n 3, 1) := dk_45 (dk_at dksJ10_compress_1 21 rfl rfl)
theorem dJ10_compress_45 : decode cJ10_compress 45 = .ok (.iconst 0, 1) := dk_3 (dk_at dksJ10_compress_1 22 rfl rfl)
theorem dJ10_compress_46 : decode cJ10_compress 46 = .ok (.iload_n 2, 1) := dk_28 (dk_at dksJ10_compress_1 23 rfl rfl)
theorem dJ10_compress_47 : decode cJ10_compress 47 = .ok (.invokestatic 123, 3) := dk_184 0 123 (dk_at dksJ10_compress_2 0 rfl rfl)
theorem dJ10_compress_50 : decode cJ10_compress 50 = .ok (.iload_n 2, 1) := dk_28 (dk_at dksJ10_compress_2 3 rfl rfl)
theorem dJ10_compress_51 : decode cJ10_compress 51 = .ok (.if_icmp .eq 6, 3) := dk_159 0 6 (dk_at dksJ10_compress_2 4 rfl rfl)
theorem dJ10_compress_54 : decode cJ10_compress 54 = .ok (.aload 5, 2) := dk_25 5 (dk_at dksJ10_compress_2 7 rfl rfl)
theorem dJ10_compress_56 : decode cJ10_compress 56 = .ok (.areturn, 1) := dk_176 (dk_at dksJ10_compress_2 9 rfl rfl)
theorem dJ10_compress_57 : decode cJ10_compress 57 = .ok (.aload_n 3, 1) := dk_45 (dk_at dksJ10_compress_2 10 rfl rfl)
theorem dJ10_compress_58 : decode cJ10_compress 58 = .ok (.areturn, 1) := dk_176 (dk_at dksJ10_compress_2 11 rfl rfl)
abbrev cJ10_compress_2 : ByteArray := prog_39_method_21_code
def yJ10_compress_2 : MethodName := ⟨RJ10, "compress", "([CI[BII)I"⟩
def dkwJ10_compress_2_1 : List UInt8 := [21, 5, 172, 44, 29, 21, 6, 145, 84, 132, 1, 1, 132, 3, 1, 132, 5, 1, 167, 255, 218, 21, 4, 172]
abbrev dktJ10_compress_2_1 : List UInt8 := dkwJ10_compress_2_1 ++ []
def dkwJ10_compress_2_0 : List UInt8 := [3, 54, 5, 21, 5, 21, 4, 162, 0, 37, 42, 27, 52, 54, 6, 21, 6, 17, 0, 255, 164, 0, 6]
abbrev dktJ10_compress_2_0 : List UInt8 := dkwJ10_compress_2_0 ++ dktJ10_compress_2_1
theorem dksJ10_compress_2_0 : cJ10_compress_2.data.toList.drop 0 = dktJ10_compress_2_0 := by decide +kernel
theorem dksJ10_compress_2_1 : cJ10_compress_2.data.toList.drop 23 = dktJ10_compress_2_1 := dk_seg dksJ10_compress_2_0 23 rfl rfl
theorem dJ10_compress_2_0 : decode cJ10_compress_2 0 = .ok (.iconst 0, 1) := dk_3 (dk_at dksJ10_compress_2_0 0 rfl rfl)
theorem dJ10_compress_2_1 : decode cJ10_compress_2 1 = .ok (.istore 5, 2) := dk_54 5 (dk_at dksJ10_compress_2_0 1 rfl rfl)
theorem dJ10_compress_2_3 : decode cJ10_compress_2 3 = .ok (.iload 5, 2) := dk_21 5 (dk_at dksJ10_compress_2_0 3 rfl rfl)
theorem dJ10_compress_2_5 : decode cJ10_compress_2 5 = .ok (.iload 4, 2) := dk_21 4 (dk_at dksJ10_compress_2_0 5 rfl rfl)
theorem dJ10_compress_2_7 : decode cJ10_compress_2 7 = .ok (.if_icmp .ge 37, 3) := dk_162 0 37 (dk_at dksJ10_compress_2_0 7 rfl rfl)
theorem dJ10_compress_2_10 : decode cJ10_compress_2 10 = .ok (.aload_n 0, 1) := dk_42 (dk_at dksJ10_compress_2_0 10 rfl rfl)
theorem dJ10_compress_2_11 : decode cJ10_compress_2 11 = .ok (.iload_n 1, 1) := dk_27 (dk_at dksJ10_compress_2_0 11 rfl rfl)
theorem dJ10_compress_2_12 : decode cJ10_compress_2 12 = .ok (.caload, 1) := dk_52 (dk_at dksJ10_compress_2_0 12 rfl rfl)
theorem dJ10_compress_2_13 : decode cJ10_compress_2 13 = .ok (.istore 6, 2) := dk_54 6 (dk_at dksJ10_compress_2_0 13 rfl rfl)
theorem dJ10_compress_2_15 : decode cJ10_compress_2 15 = .ok (.iload 6, 2) := dk_21 6 (dk_at dksJ10_compress_2_0 15 rfl rfl)
theorem dJ10_compress_2_17 : decode cJ10_compress_2 17 = .ok (.sipush 255, 3) := dk_17 0 255 (dk_at dksJ10_compress_2_0 17 rfl rfl)
theorem dJ10_compress_2_20 : decode cJ10_compress_2 20 = .ok (.if_icmp .le 6, 3) := dk_164 0 6 (dk_at dksJ10_compress_2_0 20 rfl rfl)
theorem dJ10_compress_2_23 : decode cJ10_compress_2 23 = .ok (.iload 5, 2) := dk_21 5 (dk_at dksJ10_compress_2_1 0 rfl rfl)
theorem dJ10_compress_2_25 : decode cJ10_compress_2 25 = .ok (.ireturn, 1) := dk_172 (dk_at dksJ10_compress_2_1 2 rfl rfl)
theorem dJ10_compress_2_26 : decode cJ10_compress_2 26 = .ok (.aload_n 2, 1) := dk_44 (dk_at dksJ10_compress_2_1 3 rfl rfl)
theorem dJ10_compress_2_27 : decode cJ10_compress_2 27 = .ok (.iload_n 3, 1) := dk_29 (dk_at dksJ10_compress_2_1 4 rfl rfl)
theorem dJ10_compress_2_28 : decode cJ10_compress_2 28 = .ok (.iload 6, 2) := dk_21 6 (dk_at dksJ10_compress_2_1 5 rfl rfl)
theorem dJ10_compress_2_30 : decode cJ10_compress_2 30 = .ok (.i2b, 1) := dk_145 (dk_at dksJ10_compress_2_1 7 rfl rfl)
theorem dJ10_compress_2_31 : decode cJ10_compress_2 31 = .ok (.bastore, 1) := dk_84 (dk_at dksJ10_compress_2_1 8 rfl rfl)
theorem dJ10_compress_2_32 : decode cJ10_compress_2 32 = .ok (.iinc 1 1, 3) := dk_132 1 1 (dk_at dksJ10_compress_2_1 9 rfl rfl)
theorem dJ10_compress_2_35 : decode cJ10_compress_2 35 = .ok (.iinc 3 1, 3) := dk_132 3 1 (dk_at dksJ10_compress_2_1 12 rfl rfl)
theorem dJ10_compress_2_38 : decode cJ10_compress_2 38 = .ok (.iinc 5 1, 3) := dk_132 5 1 (dk_at dksJ10_compress_2_1 15 rfl rfl)
theorem dJ10_compress_2_41 : decode cJ10_compress_2 41 = .ok (.goto (-38), 3) := dk_167 255 218 (dk_at dksJ10_compress_2_1 18 rfl rfl)
theorem dJ10_compress_2_44 : decode cJ10_compress_2 44 = .ok (.iload 4, 2) := dk_21 4 (dk_at dksJ10_compress_2_1 21 rfl rfl)
theorem dJ10_compress_2_46 : decode cJ10_compress_2 46 = .ok (.ireturn, 1) := dk_172 (dk_at dksJ10_compress_2_1 23 rfl rfl)
abbrev cJ10_toBytes : ByteArray := prog_39_method_14_code
def yJ10_toBytes : MethodName := ⟨RJ10, "toBytes", "([CII)[B"⟩
def dkwJ10_toBytes_1 : List UInt8 := [132, 1, 1, 132, 4, 1, 167, 255, 235, 45, 176]
abbrev dktJ10_toBytes_1 : List UInt8 := dkwJ10_toBytes_1 ++ []
def dkwJ10_toBytes_0 : List UInt8 := [28, 184, 0, 107, 78, 3, 54, 4, 21, 4, 28, 162, 0, 21, 45, 21, 4, 42, 27, 52, 184, 0, 111]
abbrev dktJ10_toBytes_0 : List UInt8 := dkwJ10_toBytes_0 ++ dktJ10_toBytes_1
theorem dksJ10_toBytes_0 : cJ10_toBytes.data.toList.drop 0 = dktJ10_toBytes_0 := by decide +kernel
theorem dksJ10_toBytes_1 : cJ10_toBytes.data.toList.drop 23 = dktJ10_toBytes_1 := dk_seg dksJ10_toBytes_0 23 rfl rfl
theorem dJ10_toBytes_0 : decode cJ10_toBytes 0 = .ok (.iload_n 2, 1) := dk_28 (dk_at dksJ10_toBytes_0 0 rfl rfl)
theorem dJ10_toBytes_1 : decode cJ10_toBytes 1 = .ok (.invokestatic 107, 3) := dk_184 0 107 (dk_at dksJ10_toBytes_0 1 rfl rfl)
theorem dJ10_toBytes_4 : decode cJ10_toBytes 4 = .ok (.astore_n 3, 1) := dk_78 (dk_at dksJ10_toBytes_0 4 rfl rfl)
theorem dJ10_toBytes_5 : decode cJ10_toBytes 5 = .ok (.iconst 0, 1) := dk_3 (dk_at dksJ10_toBytes_0 5 rfl rfl)
theorem dJ10_toBytes_6 : decode cJ10_toBytes 6 = .ok (.istore 4, 2) := dk_54 4 (dk_at dksJ10_toBytes_0 6 rfl rfl)
theorem dJ10_toBytes_8 : decode cJ10_toBytes 8 = .ok (.iload 4, 2) := dk_21 4 (dk_at dksJ10_toBytes_0 8 rfl rfl)
theorem dJ10_toBytes_10 : decode cJ10_toBytes 10 = .ok (.iload_n 2, 1) := dk_28 (dk_at dksJ10_toBytes_0 10 rfl rfl)
theorem dJ10_toBytes_11 : decode cJ10_toBytes 11 = .ok (.if_icmp .ge 21, 3) := dk_162 0 21 (dk_at dksJ10_toBytes_0 11 rfl rfl)
theorem dJ10_toBytes_14 : decode cJ10_toBytes 14 = .ok (.aload_n 3, 1) := dk_45 (dk_at dksJ10_toBytes_0 14 rfl rfl)
theorem dJ10_toBytes_15 : decode cJ10_toBytes 15 = .ok (.iload 4, 2) := dk_21 4 (dk_at dksJ10_toBytes_0 15 rfl rfl)
theorem dJ10_toBytes_17 : decode cJ10_toBytes 17 = .ok (.aload_n 0, 1) := dk_42 (dk_at dksJ10_toBytes_0 17 rfl rfl)
theorem dJ10_toBytes_18 : decode cJ10_toBytes 18 = .ok (.iload_n 1, 1) := dk_27 (dk_at dksJ10_toBytes_0 18 rfl rfl)
theorem dJ10_toBytes_19 : decode cJ10_toBytes 19 = .ok (.caload, 1) := dk_52 (dk_at dksJ10_toBytes_0 19 rfl rfl)
theorem dJ10_toBytes_20 : decode cJ10_toBytes 20 = .ok (.invokestatic 111, 3) := dk_184 0 111 (dk_at dksJ10_toBytes_0 20 rfl rfl)
theorem dJ10_toBytes_23 : decode cJ10_toBytes 23 = .ok (.iinc 1 1, 3) := dk_132 1 1 (dk_at dksJ10_toBytes_1 0 rfl rfl)
theorem dJ10_toBytes_26 : decode cJ10_toBytes 26 = .ok (.iinc 4 1, 3) := dk_132 4 1 (dk_at dksJ10_toBytes_1 3 rfl rfl)
theorem dJ10_toBytes_29 : decode cJ10_toBytes 29 = .ok (.goto (-21), 3) := dk_167 255 235 (dk_at dksJ10_toBytes_1 6 rfl rfl)
theorem dJ10_toBytes_32 : decode cJ10_toBytes 32 = .ok (.aload_n 3, 1) := dk_45 (dk_at dksJ10_toBytes_1 9 rfl rfl)
theorem dJ10_toBytes_33 : decode cJ10_toBytes 33 = .ok (.areturn, 1) := dk_176 (dk_at dksJ10_toBytes_1 10 rfl rfl)
abbrev cJ10_newBytesFor : ByteArray := prog_39_method_2_code
def yJ10_newBytesFor : MethodName := ⟨RJ10, "newBytesFor", "(I)[B"⟩
def dkwJ10_newBytesFor_0 : List UInt8 := [26, 184, 0, 11, 188, 8, 176]
abbrev dktJ10_newBytesFor_0 : List UInt8 := dkwJ10_newBytesFor_0 ++ []
theorem dksJ10_newBytesFor_0 : cJ10_newBytesFor.data.toList.drop 0 = dktJ10_newBytesFor_0 := by decide +kernel
theorem dJ10_newBytesFor_0 : decode cJ10_newBytesFor 0 = .ok (.iload_n 0, 1) := dk_26 (dk_at dksJ10_newBytesFor_0 0 rfl rfl)
theorem dJ10_newBytesFor_1 : decode cJ10_newBytesFor 1 = .ok (.invokestatic 11, 3) := dk_184 0 11 (dk_at dksJ10_newBytesFor_0 1 rfl rfl)
theorem dJ10_newBytesFor_4 : decode cJ10_newBytesFor 4 = .ok (.newarray .byte, 2) := dk_188_8 (dk_at dksJ10_newBytesFor_0 4 rfl rfl)
theorem dJ10_newBytesFor_6 : decode cJ10_newBytesFor 6 = .ok (.areturn, 1) := dk_176 (dk_at dksJ10_newBytesFor_0 6 rfl rfl)
abbrev cJ10_newBytesLength : ByteArray := prog_39_method_3_code
def yJ10_newBytesLength : MethodName := ⟨RJ10, "newBytesLength", "(I)I"⟩
def dkwJ10_newBytesLength_2 : List UInt8 := [182, 0, 32, 182, 0, 37, 183, 0, 41, 191, 26, 4, 120, 172]
abbrev dktJ10_newBytesLength_2 : List UInt8 := dkwJ10_newBytesLength_2 ++ []
def dkwJ10_newBytesLength_1 : List UInt8 := [187, 0, 23, 89, 183, 0, 25, 18, 26, 182, 0, 28, 26, 182, 0, 32, 18, 35, 182, 0, 28, 18, 20]
abbrev dktJ10_newBytesLength_1 : List UInt8 := dkwJ10_newBytesLength_1 ++ dktJ10_newBytesLength_2
def dkwJ10_newBytesLength_0 : List UInt8 := [26, 156, 0, 11, 187, 0, 17, 89, 183, 0, 19, 191, 26, 18, 20, 161, 0, 40, 187, 0, 21, 89]
abbrev dktJ10_newBytesLength_0 : List UInt8 := dkwJ10_newBytesLength_0 ++ dktJ10_newBytesLength_1
theorem dksJ10_newBytesLength_0 : cJ10_newBytesLength.data.toList.drop 0 = dktJ10_newBytesLength_0 := by decide +kernel
theorem dksJ10_newBytesLength_1 : cJ10_newBytesLength.data.toList.drop 22 = dktJ10_newBytesLength_1 := dk_seg dksJ10_newBytesLength_0 22 rfl rfl
theorem dksJ10_newBytesLength_2 : cJ10_newBytesLength.data.toList.drop 45 = dktJ10_newBytesLength_2 := dk_seg dksJ10_newBytesLength_1 23 rfl rfl
theorem dJ10_newBytesLength_0 : decode cJ10_newBytesLength 0 = .ok (.iload_n 0, 1) := dk_26 (dk_at dksJ10_newBytesLength_0 0 rfl rfl)
theorem dJ10_newBytesLength_1 : decode cJ10_newBytesLength 1 = .ok (.ifCond .ge 11, 3) := dk_156 0 11 (dk_at dksJ10_newBytesLength_0 1 rfl rfl)
theorem dJ10_newBytesLength_4 : decode cJ10_newBytesLength 4 = .ok (.new 17, 3) := dk_187 0 17 (dk_at dksJ10_newBytesLength_0 4 rfl rfl)
theorem dJ10_newBytesLength_7 : decode cJ10_newBytesLength 7 = .ok (.dup, 1) := dk_89 (dk_at dksJ10_newBytesLength_0 7 rfl rfl)
theorem dJ10_newBytesLength_8 : decode cJ10_newBytesLength 8 = .ok (.invokespecial 19, 3) := dk_183 0 19 (dk_at dksJ10_newBytesLength_0 8 rfl rfl)
theorem dJ10_newBytesLength_11 : decode cJ10_newBytesLength 11 = .ok (.athrow, 1) := dk_191 (dk_at dksJ10_newBytesLength_0 11 rfl rfl)
theorem dJ10_newBytesLength_12 : decode cJ10_newBytesLength 12 = .ok (.iload_n 0, 1) := dk_26 (dk_at dksJ10_newBytesLength_0 12 rfl rfl)
theorem dJ10_newBytesLength_13 : decode cJ10_newBytesLength 13 = .ok (.ldc 20, 2) := dk_18 20 (dk_at dksJ10_newBytesLength_0 13 rfl rfl)
theorem dJ10_newBytesLength_15 : decode cJ10_newBytesLength 15 = .ok (.if_icmp .lt 40, 3) := dk_161 0 40 (dk_at dksJ10_newBytesLength_0 15 rfl rfl)
theorem dJ10_newBytesLength_18 : decode cJ10_newBytesLength 18 = .ok (.new 21, 3) := dk_187 0 21 (dk_at dksJ10_newBytesLength_0 18 rfl rfl)
theorem dJ10_newBytesLength_21 : decode cJ10_newBytesLength 21 = .ok (.dup, 1) := dk_89 (dk_at dksJ10_newBytesLength_0 21 rfl rfl)
theorem dJ10_newBytesLength_22 : decode cJ10_newBytesLength 22 = .ok (.new 23, 3) := dk_187 0 23 (dk_at dksJ10_newBytesLength_1 0 rfl rfl)
theorem dJ10_newBytesLength_25 : decode cJ10_newBytesLength 25 = .ok (.dup, 1) := dk_89 (dk_at dksJ10_newBytesLength_1 3 rfl rfl)
theorem dJ10_newBytesLength_26 : decode cJ10_newBytesLength 26 = .ok (.invokespecial 25, 3) := dk_183 0 25 (dk_at dksJ10_newBytesLength_1 4 rfl rfl)
theorem dJ10_newBytesLength_29 : decode cJ10_newBytesLength 29 = .ok (.ldc 26, 2) := dk_18 26 (dk_at dksJ10_newBytesLength_1 7 rfl rfl)
theorem dJ10_newBytesLength_31 : decode cJ10_newBytesLength 31 = .ok (.invokevirtual 28, 3) := dk_182 0 28 (dk_at dksJ10_newBytesLength_1 9 rfl rfl)
theorem dJ10_newBytesLength_34 : decode cJ10_newBytesLength 34 = .ok (.iload_n 0, 1) := dk_26 (dk_at dksJ10_newBytesLength_1 12 rfl rfl)
theorem dJ10_newBytesLength_35 : decode cJ10_newBytesLength 35 = .ok (.invokevirtual 32, 3) := dk_182 0 32 (dk_at dksJ10_newBytesLength_1 13 rfl rfl)
theorem dJ10_newBytesLength_38 : decode cJ10_newBytesLength 38 = .ok (.ldc 35, 2) := dk_18 35 (dk_at dksJ10_newBytesLength_1 16 rfl rfl)
theorem dJ10_newBytesLength_40 : decode cJ10_newBytesLength 40 = .ok (.invokevirtual 28, 3) := dk_182 0 28 (dk_at dksJ10_newBytesLength_1 18 rfl rfl)
theorem dJ10_newBytesLength_43 : decode cJ10_newBytesLength 43 = .ok (.ldc 20, 2) := dk_18 20 (dk_at dksJ10_newBytesLength_1 21 rfl rfl)
theorem dJ10_newBytesLength_45 : decode cJ10_newBytesLength 45 = .ok (.invokevirtual 32, 3) := dk_182 0 32 (dk_at dksJ10_newBytesLength_2 0 rfl rfl)
theorem dJ10_newBytesLength_48 : decode cJ10_newBytesLength 48 = .ok (.invokevirtual 37, 3) := dk_182 0 37 (dk_at dksJ10_newBytesLength_2 3 rfl rfl)
theorem dJ10_newBytesLength_51 : decode cJ10_newBytesLength 51 = .ok (.invokespecial 41, 3) := dk_183 0 41 (dk_at dksJ10_newBytesLength_2 6 rfl rfl)
theorem dJ10_newBytesLength_54 : decode cJ10_newBytesLength 54 = .ok (.athrow, 1) := dk_191 (dk_at dksJ10_newBytesLength_2 9 rfl rfl)
theorem dJ10_newBytesLength_55 : decode cJ10_newBytesLength 55 = .ok (.iload_n 0, 1) := dk_26 (dk_at dksJ10_newBytesLength_2 10 rfl rfl)
theorem dJ10_newBytesLength_56 : decode cJ10_newBytesLength 56 = .ok (.iconst 1, 1) := dk_4 (dk_at dksJ10_newBytesLength_2 11 rfl rfl)
theorem dJ10_newBytesLength_57 : decode cJ10_newBytesLength 57 = .ok (.ishl, 1) := dk_120 (dk_at dksJ10_newBytesLength_2 12 rfl rfl)
theorem dJ10_newBytesLength_58 : decode cJ10_newBytesLength 58 = .ok (.ireturn, 1) := dk_172 (dk_at dksJ10_newBytesLength_2 13 rfl rfl)
abbrev cJ10_putChar : ByteArray := prog_39_method_4_code
def yJ10_putChar : MethodName := ⟨RJ10, "putChar", "([BII)V"⟩
def dkwJ10_putChar_2 : List UInt8 := [178, 0, 63, 122, 145, 84, 177]
abbrev dktJ10_putChar_2 : List UInt8 := dkwJ10_putChar_2 ++ []
def dkwJ10_putChar_1 : List UInt8 := [183, 0, 56, 191, 27, 4, 120, 60, 42, 27, 132, 1, 1, 28, 178, 0, 59, 122, 145, 84, 42, 27, 28]
abbrev dktJ10_putChar_1 : List UInt8 := dkwJ10_putChar_1 ++ dktJ10_putChar_2
def dkwJ10_putChar_0 : List UInt8 := [178, 0, 44, 154, 0, 25, 27, 155, 0, 11, 27, 42, 184, 0, 48, 161, 0, 13, 187, 0, 52, 89, 18, 54]
abbrev dktJ10_putChar_0 : List UInt8 := dkwJ10_putChar_0 ++ dktJ10_putChar_1
theorem dksJ10_putChar_0 : cJ10_putChar.data.toList.drop 0 = dktJ10_putChar_0 := by decide +kernel
theorem dksJ10_putChar_1 : cJ10_putChar.data.toList.drop 24 = dktJ10_putChar_1 := dk_seg dksJ10_putChar_0 24 rfl rfl
theorem dksJ10_putChar_2 : cJ10_putChar.data.toList.drop 47 = dktJ10_putChar_2 := dk_seg dksJ10_putChar_1 23 rfl rfl
theorem dJ10_putChar_0 : decode cJ10_putChar 0 = .ok (.getstatic 44, 3) := dk_178 0 44 (dk_at dksJ10_putChar_0 0 rfl rfl)
theorem dJ10_putChar_3 : decode cJ10_putChar 3 = .ok (.ifCond .ne 25, 3) := dk_154 0 25 (dk_at dksJ10_putChar_0 3 rfl rfl)
theorem dJ10_putChar_6 : decode cJ10_putChar 6 = .ok (.iload_n 1, 1) := dk_27 (dk_at dksJ10_putChar_0 6 rfl rfl)
theorem dJ10_putChar_7 : decode cJ10_putChar 7 = .ok (.ifCond .lt 11, 3) := dk_155 0 11 (dk_at dksJ10_putChar_0 7 rfl rfl)
theorem dJ10_putChar_10 : decode cJ10_putChar 10 = .ok (.iload_n 1, 1) := dk_27 (dk_at dksJ10_putChar_0 10 rfl rfl)
theorem dJ10_putChar_11 : decode cJ10_putChar 11 = .ok (.aload_n 0, 1) := dk_42 (dk_at dksJ10_putChar_0 11 rfl rfl)
theorem dJ10_putChar_12 : decode cJ10_putChar 12 = .ok (.invokestatic 48, 3) := dk_184 0 48 (dk_at dksJ10_putChar_0 12 rfl rfl)
theorem dJ10_putChar_15 : decode cJ10_putChar 15 = .ok (.if_icmp .lt 13, 3) := dk_161 0 13 (dk_at dksJ10_putChar_0 15 rfl rfl)
theorem dJ10_putChar_18 : decode cJ10_putChar 18 = .ok (.new 52, 3) := dk_187 0 52 (dk_at dksJ10_putChar_0 18 rfl rfl)
theorem dJ10_putChar_21 : decode cJ10_putChar 21 = .ok (.dup, 1) := dk_89 (dk_at dksJ10_putChar_0 21 rfl rfl)
theorem dJ10_putChar_22 : decode cJ10_putChar 22 = .ok (.ldc 54, 2) := dk_18 54 (dk_at dksJ10_putChar_0 22 rfl rfl)
theorem dJ10_putChar_24 : decode cJ10_putChar 24 = .ok (.invokespecial 56, 3) := dk_183 0 56 (dk_at dksJ10_putChar_1 0 rfl rfl)
theorem dJ10_putChar_27 : decode cJ10_putChar 27 = .ok (.athrow, 1) := dk_191 (dk_at dksJ10_putChar_1 3 rfl rfl)
theorem dJ10_putChar_28 : decode cJ10_putChar 28 = .ok (.iload_n 1, 1) := dk_27 (dk_at dksJ10_putChar_1 4 rfl rfl)
theorem dJ10_putChar_29 : decode cJ10_putChar 29 = .ok (.iconst 1, 1) := dk_4 (dk_at dksJ10_putChar_1 5 rfl rfl)
theorem dJ10_putChar_30 : decode cJ10_putChar 30 = .ok (.ishl, 1) := dk_120 (dk_at dksJ10_putChar_1 6 rfl rfl)
theorem dJ10_putChar_31 : decode cJ10_putChar 31 = .ok (.istore_n 1, 1) := dk_60 (dk_at dksJ10_putChar_1 7 rfl rfl)
theorem dJ10_putChar_32 : decode cJ10_putChar 32 = .ok (.aload_n 0, 1) := dk_42 (dk_at dksJ10_putChar_1 8 rfl rfl)
theorem dJ10_putChar_33 : decode cJ10_putChar 33 = .ok (.iload_n 1, 1) := dk_27 (dk_at dksJ10_putChar_1 9 rfl rfl)
theorem dJ10_putChar_34 : decode cJ10_putChar 34 = .ok (.iinc 1 1, 3) := dk_132 1 1 (dk_at dksJ10_putChar_1 10 rfl rfl)
theorem dJ10_putChar_37 : decode cJ10_putChar 37 = .ok (.iload_n 2, 1) := dk_28 (dk_at dksJ10_putChar_1 13 rfl rfl)
theorem dJ10_putChar_38 : decode cJ10_putChar 38 = .ok (.getstatic 59, 3) := dk_178 0 59 (dk_at dksJ10_putChar_1 14 rfl rfl)
theorem dJ10_putChar_41 : decode cJ10_putChar 41 = .ok (.ishr, 1) := dk_122 (dk_at dksJ10_putChar_1 17 rfl rfl)
theorem dJ10_putChar_42 : decode cJ10_putChar 42 = .ok (.i2b, 1) := dk_145 (dk_at dksJ10_putChar_1 18 rfl rfl)
theorem dJ10_putChar_43 : decode cJ10_putChar 43 = .ok (.bastore, 1) := dk_84 (dk_at dksJ10_putChar_1 19 rfl rfl)
theorem dJ10_putChar_44 : decode cJ10_putChar 44 = .ok (.aload_n 0, 1) := dk_42 (dk_at dksJ10_putChar_1 20 rfl rfl)
theorem dJ10_putChar_45 : decode cJ10_putChar 45 = .ok (.iload_n 1, 1) := dk_27 (dk_at dksJ10_putChar_1 21 rfl rfl)
theorem dJ10_putChar_46 : decode cJ10_putChar 46 = .ok (.iload_n 2, 1) := dk_28 (dk_at dksJ10_putChar_1 22 rfl rfl)
theorem dJ10_putChar_47 : decode cJ10_putChar 47 = .ok (.getstatic 63, 3) := dk_178 0 63 (dk_at dksJ10_putChar_2 0 rfl rfl)
theorem dJ10_putChar_50 : decode cJ10_putChar 50 = .ok (.ishr, 1) := dk_122 (dk_at dksJ10_putChar_2 3 rfl rfl)
theorem dJ10_putChar_51 : decode cJ10_putChar 51 = .ok (.i2b, 1) := dk_145 (dk_at dksJ10_putChar_2 4 rfl rfl)
theorem dJ10_putChar_52 : decode cJ10_putChar 52 = .ok (.bastore, 1) := dk_84 (dk_at dksJ10_putChar_2 5 rfl rfl)
theorem dJ10_putChar_53 : decode cJ10_putChar 53 = .ok (.return_, 1) := dk_177 (dk_at dksJ10_putChar_2 6 rfl rfl)
abbrev cJ10_length : ByteArray := prog_39_method_6_code
def yJ10_length : MethodName := ⟨RJ10, "length", "([B)I"⟩
def dkwJ10_length_0 : List UInt8 := [42, 190, 4, 122, 172]
abbrev dktJ10_length_0 : List UInt8 := dkwJ10_length_0 ++ []
theorem dksJ10_length_0 : cJ10_length.data.toList.drop 0 = dktJ10_length_0 := by decide +kernel
theorem dJ10_length_0 : decode cJ10_length 0 = .ok (.aload_n 0, 1) := dk_42 (dk_at dksJ10_length_0 0 rfl rfl)
theorem dJ10_length_1 : decode cJ10_length 1 = .ok (.arraylength, 1) := dk_190 (dk_at dksJ10_length_0 1 rfl rfl)
theorem dJ10_length_2 : decode cJ10_length 2 = .ok (.iconst 1, 1) := dk_4 (dk_at dksJ10_length_0 2 rfl rfl)
theorem dJ10_length_3 : decode cJ10_length 3 = .ok (.ishr, 1) := dk_122 (dk_at dksJ10_length_0 3 rfl rfl)
theorem dJ10_length_4 : decode cJ10_length 4 = .ok (.ireturn, 1) := dk_172 (dk_at dksJ10_length_0 4 rfl rfl)
abbrev cJ10_getChar : ByteArray := prog_39_method_5_code
def yJ10_getChar : MethodName := ⟨RJ10, "getChar", "([BI)C"⟩
def dkwJ10_getChar_2 : List UInt8 := [51, 17, 0, 255, 126, 178, 0, 63, 120, 128, 146, 172]
abbrev dktJ10_getChar_2 : List UInt8 := dkwJ10_getChar_2 ++ []
def dkwJ10_getChar_1 : List UInt8 := [183, 0, 56, 191, 27, 4, 120, 60, 42, 27, 132, 1, 1, 51, 17, 0, 255, 126, 178, 0, 59, 120, 42, 27]
abbrev dktJ10_getChar_1 : List UInt8 := dkwJ10_getChar_1 ++ dktJ10_getChar_2
def dkwJ10_getChar_0 : List UInt8 := [178, 0, 44, 154, 0, 25, 27, 155, 0, 11, 27, 42, 184, 0, 48, 161, 0, 13, 187, 0, 52, 89, 18, 54]
abbrev dktJ10_getChar_0 : List UInt8 := dkwJ10_getChar_0 ++ dktJ10_getChar_1
theorem dksJ10_getChar_0 : cJ10_getChar.data.toList.drop 0 = dktJ10_getChar_0 := by decide +kernel
theorem dksJ10_getChar_1 : cJ10_getChar.data.toList.drop 24 = dktJ10_getChar_1 := dk_seg dksJ10_getChar_0 24 rfl rfl
theorem dksJ10_getChar_2 : cJ10_getChar.data.toList.drop 48 = dktJ10_getChar_2 := dk_seg dksJ10_getChar_1 24 rfl rfl
theorem dJ10_getChar_0 : decode cJ10_getChar 0 = .ok (.getstatic 44, 3) := dk_178 0 44 (dk_at dksJ10_getChar_0 0 rfl rfl)
theorem dJ10_getChar_3 : decode cJ10_getChar 3 = .ok (.ifCond .ne 25, 3) := dk_154 0 25 (dk_at dksJ10_getChar_0 3 rfl rfl)
theorem dJ10_getChar_6 : decode cJ10_getChar 6 = .ok (.iload_n 1, 1) := dk_27 (dk_at dksJ10_getChar_0 6 rfl rfl)
theorem dJ10_getChar_7 : decode cJ10_getChar 7 = .ok (.ifCond .lt 11, 3) := dk_155 0 11 (dk_at dksJ10_getChar_0 7 rfl rfl)
theorem dJ10_getChar_10 : decode cJ10_getChar 10 = .ok (.iload_n 1, 1) := dk_27 (dk_at dksJ10_getChar_0 10 rfl rfl)
theorem dJ10_getChar_11 : decode cJ10_getChar 11 = .ok (.aload_n 0, 1) := dk_42 (dk_at dksJ10_getChar_0 11 rfl rfl)
theorem dJ10_getChar_12 : decode cJ10_getChar 12 = .ok (.invokestatic 48, 3) := dk_184 0 48 (dk_at dksJ10_getChar_0 12 rfl rfl)
theorem dJ10_getChar_15 : decode cJ10_getChar 15 = .ok (.if_icmp .lt 13, 3) := dk_161 0 13 (dk_at dksJ10_getChar_0 15 rfl rfl)
theorem dJ10_getChar_18 : decode cJ10_getChar 18 = .ok (.new 52, 3) := dk_187 0 52 (dk_at dksJ10_getChar_0 18 rfl rfl)
theorem dJ10_getChar_21 : decode cJ10_getChar 21 = .ok (.dup, 1) := dk_89 (dk_at dksJ10_getChar_0 21 rfl rfl)
theorem dJ10_getChar_22 : decode cJ10_getChar 22 = .ok (.ldc 54, 2) := dk_18 54 (dk_at dksJ10_getChar_0 22 rfl rfl)
theorem dJ10_getChar_24 : decode cJ10_getChar 24 = .ok (.invokespecial 56, 3) := dk_183 0 56 (dk_at dksJ10_getChar_1 0 rfl rfl)
theorem dJ10_getChar_27 : decode cJ10_getChar 27 = .ok (.athrow, 1) := dk_191 (dk_at dksJ10_getChar_1 3 rfl rfl)
theorem dJ10_getChar_28 : decode cJ10_getChar 28 = .ok (.iload_n 1, 1) := dk_27 (dk_at dksJ10_getChar_1 4 rfl rfl)
theorem dJ10_getChar_29 : decode cJ10_getChar 29 = .ok (.iconst 1, 1) := dk_4 (dk_at dksJ10_getChar_1 5 rfl rfl)
theorem dJ10_getChar_30 : decode cJ10_getChar 30 = .ok (.ishl, 1) := dk_120 (dk_at dksJ10_getChar_1 6 rfl rfl)
theorem dJ10_getChar_31 : decode cJ10_getChar 31 = .ok (.istore_n 1, 1) := dk_60 (dk_at dksJ10_getChar_1 7 rfl rfl)
theorem dJ10_getChar_32 : decode cJ10_getChar 32 = .ok (.aload_n 0, 1) := dk_42 (dk_at dksJ10_getChar_1 8 rfl rfl)
theorem dJ10_getChar_33 : decode cJ10_getChar 33 = .ok (.iload_n 1, 1) := dk_27 (dk_at dksJ10_getChar_1 9 rfl rfl)
theorem dJ10_getChar_34 : decode cJ10_getChar 34 = .ok (.iinc 1 1, 3) := dk_132 1 1 (dk_at dksJ10_getChar_1 10 rfl rfl)
theorem dJ10_getChar_37 : decode cJ10_getChar 37 = .ok (.baload, 1) := dk_51 (dk_at dksJ10_getChar_1 13 rfl rfl)
theorem dJ10_getChar_38 : decode cJ10_getChar 38 = .ok (.sipush 255, 3) := dk_17 0 255 (dk_at dksJ10_getChar_1 14 rfl rfl)
theorem dJ10_getChar_41 : decode cJ10_getChar 41 = .ok (.iand, 1) := dk_126 (dk_at dksJ10_getChar_1 17 rfl rfl)
theorem dJ10_getChar_42 : decode cJ10_getChar 42 = .ok (.getstatic 59, 3) := dk_178 0 59 (dk_at dksJ10_getChar_1 18 rfl rfl)
theorem dJ10_getChar_45 : decode cJ10_getChar 45 = .ok (.ishl, 1) := dk_120 (dk_at dksJ10_getChar_1 21 rfl rfl)
theorem dJ10_getChar_46 : decode cJ10_getChar 46 = .ok (.aload_n 0, 1) := dk_42 (dk_at dksJ10_getChar_1 22 rfl rfl)
theorem dJ10_getChar_47 : decode cJ10_getChar 47 = .ok (.iload_n 1, 1) := dk_27 (dk_at dksJ10_getChar_1 23 rfl rfl)
theorem dJ10_getChar_48 : decode cJ10_getChar 48 = .ok (.baload, 1) := dk_51 (dk_at dksJ10_getChar_2 0 rfl rfl)
theorem dJ10_getChar_49 : decode cJ10_getChar 49 = .ok (.sipush 255, 3) := dk_17 0 255 (dk_at dksJ10_getChar_2 1 rfl rfl)
theorem dJ10_getChar_52 : decode cJ10_getChar 52 = .ok (.iand, 1) := dk_126 (dk_at dksJ10_getChar_2 4 rfl rfl)
theorem dJ10_getChar_53 : decode cJ10_getChar 53 = .ok (.getstatic 63, 3) := dk_178 0 63 (dk_at dksJ10_getChar_2 5 rfl rfl)
theorem dJ10_getChar_56 : decode cJ10_getChar 56 = .ok (.ishl, 1) := dk_120 (dk_at dksJ10_getChar_2 8 rfl rfl)
theorem dJ10_getChar_57 : decode cJ10_getChar 57 = .ok (.ior, 1) := dk_128 (dk_at dksJ10_getChar_2 9 rfl rfl)
theorem dJ10_getChar_58 : decode cJ10_getChar 58 = .ok (.i2c, 1) := dk_146 (dk_at dksJ10_getChar_2 10 rfl rfl)
theorem dJ10_getChar_59 : decode cJ10_getChar 59 = .ok (.ireturn, 1) := dk_172 (dk_at dksJ10_getChar_2 11 rfl rfl)
abbrev cJ10_compress_3 : ByteArray := prog_39_method_22_code
def yJ10_compress_3 : MethodName := ⟨RJ10, "compress", "([BI[BII)I"⟩
def dkwJ10_compress_3_2 : List UInt8 := [132, 5, 1, 167, 255, 216, 21, 4, 172]
abbrev dktJ10_compress_3_2 : List UInt8 := dkwJ10_compress_3_2 ++ []
def dkwJ10_compress_3_1 : List UInt8 := [21, 6, 17, 0, 255, 164, 0, 6, 21, 5, 172, 44, 29, 21, 6, 145, 84, 132, 1, 1, 132, 3, 1]
abbrev dktJ10_compress_3_1 : List UInt8 := dkwJ10_compress_3_1 ++ dktJ10_compress_3_2
def dkwJ10_compress_3_0 : List UInt8 := [27, 21, 4, 42, 184, 0, 173, 3, 54, 5, 21, 5, 21, 4, 162, 0, 39, 42, 27, 184, 0, 71, 54, 6]
abbrev dktJ10_compress_3_0 : List UInt8 := dkwJ10_compress_3_0 ++ dktJ10_compress_3_1
theorem dksJ10_compress_3_0 : cJ10_compress_3.data.toList.drop 0 = dktJ10_compress_3_0 := by decide +kernel
theorem dksJ10_compress_3_1 : cJ10_compress_3.data.toList.drop 24 = dktJ10_compress_3_1 := dk_seg dksJ10_compress_3_0 24 rfl rfl
theorem dksJ10_compress_3_2 : cJ10_compress_3.data.toList.drop 47 = dktJ10_compress_3_2 := dk_seg dksJ10_compress_3_1 23 rfl rfl
theorem dJ10_compress_3_0 : decode cJ10_compress_3 0 = .ok (.iload_n 1, 1) := dk_27 (dk_at dksJ10_compress_3_0 0 rfl rfl)
theorem dJ10_compress_3_1 : decode cJ10_compress_3 1 = .ok (.iload 4, 2) := dk_21 4 (dk_at dksJ10_compress_3_0 1 rfl rfl)
theorem dJ10_compress_3_3 : decode cJ10_compress_3 3 = .ok (.aload_n 0, 1) := dk_42 (dk_at dksJ10_compress_3_0 3 rfl rfl)
theorem dJ10_compress_3_4 : decode cJ10_compress_3 4 = .ok (.invokestatic 173, 3) := dk_184 0 173 (dk_at dksJ10_compress_3_0 4 rfl rfl)
theorem dJ10_compress_3_7 : decode cJ10_compress_3 7 = .ok (.iconst 0, 1) := dk_3 (dk_at dksJ10_compress_3_0 7 rfl rfl)
theorem dJ10_compress_3_8 : decode cJ10_compress_3 8 = .ok (.istore 5, 2) := dk_54 5 (dk_at dksJ10_compress_3_0 8 rfl rfl)
theorem dJ10_compress_3_10 : decode cJ10_compress_3 10 = .ok (.iload 5, 2) := dk_21 5 (dk_at dksJ10_compress_3_0 10 rfl rfl)
theorem dJ10_compress_3_12 : decode cJ10_compress_3 12 = .ok (.iload 4, 2) := dk_21 4 (dk_at dksJ10_compress_3_0 12 rfl rfl)
theorem dJ10_compress_3_14 : decode cJ10_compress_3 14 = .ok (.if_icmp .ge 39, 3) := dk_162 0 39 (dk_at dksJ10_compress_3_0 14 rfl rfl)
theorem dJ10_compress_3_17 : decode cJ10_compress_3 17 = .ok (.aload_n 0, 1) := dk_42 (dk_at dksJ10_compress_3_0 17 rfl rfl)
theorem dJ10_compress_3_18 : decode cJ10_compress_3 18 = .ok (.iload_n 1, 1) := dk_27 (dk_at dksJ10_compress_3_0 18 rfl rfl)
theorem dJ10_compress_3_19 : decode cJ10_compress_3 19 = .ok (.invokestatic 71, 3) := dk_184 0 71 (dk_at dksJ10_compress_3_0 19 rfl rfl)
theorem dJ10_compress_3_22 : decode cJ10_compress_3 22 = .ok (.istore 6, 2) := dk_54 6 (dk_at dksJ10_compress_3_0 22 rfl rfl)
theorem dJ10_compress_3_24 : decode cJ10_compress_3 24 = .ok (.iload 6, 2) := dk_21 6 (dk_at dksJ10_compress_3_1 0 rfl rfl)
theorem dJ10_compress_3_26 : decode cJ10_compress_3 26 = .ok (.sipush 255, 3) := dk_17 0 255 (dk_at dksJ10_compress_3_1 2 rfl rfl)
theorem dJ10_compress_3_29 : decode cJ10_compress_3 29 = .ok (.if_icmp .le 6, 3) := dk_164 0 6 (dk_at dksJ10_compress_3_1 5 rfl rfl)
theorem dJ10_compress_3_32 : decode cJ10_compress_3 32 = .ok (.iload 5, 2) := dk_21 5 (dk_at dksJ10_compress_3_1 8 rfl rfl)
theorem dJ10_compress_3_34 : decode cJ10_compress_3 34 = .ok (.ireturn, 1) := dk_172 (dk_at dksJ10_compress_3_1 10 rfl rfl)
theorem dJ10_compress_3_35 : decode cJ10_compress_3 35 = .ok (.aload_n 2, 1) := dk_44 (dk_at dksJ10_compress_3_1 11 rfl rfl)
theorem dJ10_compress_3_36 : decode cJ10_compress_3 36 = .ok (.iload_n 3, 1) := dk_29 (dk_at dksJ10_compress_3_1 12 rfl rfl)
theorem dJ10_compress_3_37 : decode cJ10_compress_3 37 = .ok (.iload 6, 2) := dk_21 6 (dk_at dksJ10_compress_3_1 13 rfl rfl)
theorem dJ10_compress_3_39 : decode cJ10_compress_3 39 = .ok (.i2b, 1) := dk_145 (dk_at dksJ10_compress_3_1 15 rfl rfl)
theorem dJ10_compress_3_40 : decode cJ10_compress_3 40 = .ok (.bastore, 1) := dk_84 (dk_at dksJ10_compress_3_1 16 rfl rfl)
theorem dJ10_compress_3_41 : decode cJ10_compress_3 41 = .ok (.iinc 1 1, 3) := dk_132 1 1 (dk_at dksJ10_compress_3_1 17 rfl rfl)
theorem dJ10_compress_3_44 : decode cJ10_compress_3 44 = .ok (.iinc 3 1, 3) := dk_132 3 1 (dk_at dksJ10_compress_3_1 20 rfl rfl)
theorem dJ10_compress_3_47 : decode cJ10_compress_3 47 = .ok (.iinc 5 1, 3) := dk_132 5 1 (dk_at dksJ10_compress_3_2 0 rfl rfl)
theorem dJ10_compress_3_50 : decode cJ10_compress_3 50 = .ok (.goto (-40), 3) := dk_167 255 216 (dk_at dksJ10_compress_3_2 3 rfl rfl)
theorem dJ10_compress_3_53 : decode cJ10_compress_3 53 = .ok (.iload 4, 2) := dk_21 4 (dk_at dksJ10_compress_3_2 6 rfl rfl)
theorem dJ10_compress_3_55 : decode cJ10_compress_3 55 = .ok (.ireturn, 1) := dk_172 (dk_at dksJ10_compress_3_2 8 rfl rfl)
abbrev cJ10_checkBoundsOffCount : ByteArray := prog_39_method_94_code
def yJ10_checkBoundsOffCount : MethodName := ⟨RJ10, "checkBoundsOffCount", "(II[B)V"⟩
def dkwJ10_checkBoundsOffCount_0 : List UInt8 := [26, 27, 44, 184, 0, 48, 184, 1, 163, 87, 177]
abbrev dktJ10_checkBoundsOffCount_0 : List UInt8 := dkwJ10_checkBoundsOffCount_0 ++ []
theorem dksJ10_checkBoundsOffCount_0 : cJ10_checkBoundsOffCount.data.toList.drop 0 = dktJ10_checkBoundsOffCount_0 := by decide +kernel
theorem dJ10_checkBoundsOffCount_0 : decode cJ10_checkBoundsOffCount 0 = .ok (.iload_n 0, 1) := dk_26 (dk_at dksJ10_checkBoundsOffCount_0 0 rfl rfl)
theorem dJ10_checkBoundsOffCount_1 : decode cJ10_checkBoundsOffCount 1 = .ok (.iload_n 1, 1) := dk_27 (dk_at dksJ10_checkBoundsOffCount_0 1 rfl rfl)
theorem dJ10_checkBoundsOffCount_2 : decode cJ10_checkBoundsOffCount 2 = .ok (.aload_n 2, 1) := dk_44 (dk_at dksJ10_checkBoundsOffCount_0 2 rfl rfl)
theorem dJ10_checkBoundsOffCount_3 : decode cJ10_checkBoundsOffCount 3 = .ok (.invokestatic 48, 3) := dk_184 0 48 (dk_at dksJ10_checkBoundsOffCount_0 3 rfl rfl)
theorem dJ10_checkBoundsOffCount_6 : decode cJ10_checkBoundsOffCount 6 = .ok (.invokestatic 419, 3) := dk_184 1 163 (dk_at dksJ10_checkBoundsOffCount_0 6 rfl rfl)
theorem dJ10_checkBoundsOffCount_9 : decode cJ10_checkBoundsOffCount 9 = .ok (.pop, 1) := dk_87 (dk_at dksJ10_checkBoundsOffCount_0 9 rfl rfl)
theorem dJ10_checkBoundsOffCount_10 : decode cJ10_checkBoundsOffCount 10 = .ok (.return_, 1) := dk_177 (dk_at dksJ10_checkBoundsOffCount_0 10 rfl rfl)
abbrev cJ10_coderFromArrayLen : ByteArray := prog_39_method_15_code
def yJ10_coderFromArrayLen : MethodName := ⟨RJ10, "coderFromArrayLen", "([BI)B"⟩
def dkwJ10_coderFromArrayLen_0 : List UInt8 := [27, 42, 190, 100, 16, 31, 124, 145, 172]
abbrev dktJ10_coderFromArrayLen_0 : List UInt8 := dkwJ10_coderFromArrayLen_0 ++ []
theorem dksJ10_coderFromArrayLen_0 : cJ10_coderFromArrayLen.data.toList.drop 0 = dktJ10_coderFromArrayLen_0 := by decide +kernel
theorem dJ10_coderFromArrayLen_0 : decode cJ10_coderFromArrayLen 0 = .ok (.iload_n 1, 1) := dk_27 (dk_at dksJ10_coderFromArrayLen_0 0 rfl rfl)
theorem dJ10_coderFromArrayLen_1 : decode cJ10_coderFromArrayLen 1 = .ok (.aload_n 0, 1) := dk_42 (dk_at dksJ10_coderFromArrayLen_0 1 rfl rfl)
theorem dJ10_coderFromArrayLen_2 : decode cJ10_coderFromArrayLen 2 = .ok (.arraylength, 1) := dk_190 (dk_at dksJ10_coderFromArrayLen_0 2 rfl rfl)
theorem dJ10_coderFromArrayLen_3 : decode cJ10_coderFromArrayLen 3 = .ok (.isub, 1) := dk_100 (dk_at dksJ10_coderFromArrayLen_0 3 rfl rfl)
theorem dJ10_coderFromArrayLen_4 : decode cJ10_coderFromArrayLen 4 = .ok (.bipush 31, 2) := dk_16 31 (dk_at dksJ10_coderFromArrayLen_0 4 rfl rfl)
theorem dJ10_coderFromArrayLen_6 : decode cJ10_coderFromArrayLen 6 = .ok (.iushr, 1) := dk_124 (dk_at dksJ10_coderFromArrayLen_0 6 rfl rfl)
theorem dJ10_coderFromArrayLen_7 : decode cJ10_coderFromArrayLen 7 = .ok (.i2b, 1) := dk_145 (dk_at dksJ10_coderFromArrayLen_0 7 rfl rfl)
theorem dJ10_coderFromArrayLen_8 : decode cJ10_coderFromArrayLen 8 = .ok (.ireturn, 1) := dk_172 (dk_at dksJ10_coderFromArrayLen_0 8 rfl rfl)
abbrev cJ10_hashCode : ByteArray := prog_39_method_39_code
def yJ10_hashCode : MethodName := ⟨RJ10, "hashCode", "([B)I"⟩
def dkwJ10_hashCode_2 : List UInt8 := [3, 167, 0, 22, 42, 3, 184, 0, 71, 167, 0, 14, 42, 3, 42, 190, 4, 122, 3, 8, 184, 0, 220, 172]
abbrev dktJ10_hashCode_2 : List UInt8 := dkwJ10_hashCode_2 ++ []
def dkwJ10_hashCode_1 : List UInt8 := [171, 0, 0, 0, 0, 38, 0, 0, 0, 2, 0, 0, 0, 0, 0, 0, 0, 26, 0, 0, 0, 2, 0, 0, 0, 30]
abbrev dktJ10_hashCode_1 : List UInt8 := dkwJ10_hashCode_1 ++ dktJ10_hashCode_2
def dkwJ10_hashCode_0 : List UInt8 := [42, 190]
abbrev dktJ10_hashCode_0 : List UInt8 := dkwJ10_hashCode_0 ++ dktJ10_hashCode_1
theorem dksJ10_hashCode_0 : cJ10_hashCode.data.toList.drop 0 = dktJ10_hashCode_0 := by decide +kernel
theorem dksJ10_hashCode_1 : cJ10_hashCode.data.toList.drop 2 = dktJ10_hashCode_1 := dk_seg dksJ10_hashCode_0 2 rfl rfl
theorem dksJ10_hashCode_2 : cJ10_hashCode.data.toList.drop 28 = dktJ10_hashCode_2 := dk_seg dksJ10_hashCode_1 26 rfl rfl
theorem dJ10_hashCode_0 : decode cJ10_hashCode 0 = .ok (.aload_n 0, 1) := dk_42 (dk_at dksJ10_hashCode_0 0 rfl rfl)
theorem dJ10_hashCode_1 : decode cJ10_hashCode 1 = .ok (.arraylength, 1) := dk_190 (dk_at dksJ10_hashCode_0 1 rfl rfl)
theorem dJ10_hashCode_2 : decode cJ10_hashCode 2 = .ok (.lookupswitch 38 #[(0, 26), (2, 30)], 26) := by decide +kernel
theorem dJ10_hashCode_28 : decode cJ10_hashCode 28 = .ok (.iconst 0, 1) := dk_3 (dk_at dksJ10_hashCode_2 0 rfl rfl)
theorem dJ10_hashCode_29 : decode cJ10_hashCode 29 = .ok (.goto 22, 3) := dk_167 0 22 (dk_at dksJ10_hashCode_2 1 rfl rfl)
theorem dJ10_hashCode_32 : decode cJ10_hashCode 32 = .ok (.aload_n 0, 1) := dk_42 (dk_at dksJ10_hashCode_2 4 rfl rfl)
theorem dJ10_hashCode_33 : decode cJ10_hashCode 33 = .ok (.iconst 0, 1) := dk_3 (dk_at dksJ10_hashCode_2 5 rfl rfl)
theorem dJ10_hashCode_34 : decode cJ10_hashCode 34 = .ok (.invokestatic 71, 3) := dk_184 0 71 (dk_at dksJ10_hashCode_2 6 rfl rfl)
theorem dJ10_hashCode_37 : decode cJ10_hashCode 37 = .ok (.goto 14, 3) := dk_167 0 14 (dk_at dksJ10_hashCode_2 9 rfl rfl)
theorem dJ10_hashCode_40 : decode cJ10_hashCode 40 = .ok (.aload_n 0, 1) := dk_42 (dk_at dksJ10_hashCode_2 12 rfl rfl)
theorem dJ10_hashCode_41 : decode cJ10_hashCode 41 = .ok (.iconst 0, 1) := dk_3 (dk_at dksJ10_hashCode_2 13 rfl rfl)
theorem dJ10_hashCode_42 : decode cJ10_hashCode 42 = .ok (.aload_n 0, 1) := dk_42 (dk_at dksJ10_hashCode_2 14 rfl rfl)
theorem dJ10_hashCode_43 : decode cJ10_hashCode 43 = .ok (.arraylength, 1) := dk_190 (dk_at dksJ10_hashCode_2 15 rfl rfl)
theorem dJ10_hashCode_44 : decode cJ10_hashCode 44 = .ok (.iconst 1, 1) := dk_4 (dk_at dksJ10_hashCode_2 16 rfl rfl)
theorem dJ10_hashCode_45 : decode cJ10_hashCode 45 = .ok (.ishr, 1) := dk_122 (dk_at dksJ10_hashCode_2 17 rfl rfl)
theorem dJ10_hashCode_46 : decode cJ10_hashCode 46 = .ok (.iconst 0, 1) := dk_3 (dk_at dksJ10_hashCode_2 18 rfl rfl)
theorem dJ10_hashCode_47 : decode cJ10_hashCode 47 = .ok (.iconst 5, 1) := dk_8 (dk_at dksJ10_hashCode_2 19 rfl rfl)
theorem dJ10_hashCode_48 : decode cJ10_hashCode 48 = .ok (.invokestatic 220, 3) := dk_184 0 220 (dk_at dksJ10_hashCode_2 20 rfl rfl)
theorem dJ10_hashCode_51 : decode cJ10_hashCode 51 = .ok (.ireturn, 1) := dk_172 (dk_at dksJ10_hashCode_2 23 rfl rfl)
abbrev cJ10_inflate : ByteArray := prog_39_method_86_code
def yJ10_inflate : MethodName := ⟨RJ10, "inflate", "([BI[BII)V"⟩
def dkwJ10_inflate_1 : List UInt8 := [132, 1, 1, 51, 17, 0, 255, 126, 184, 0, 111, 132, 5, 1, 167, 255, 228, 177]
abbrev dktJ10_inflate_1 : List UInt8 := dkwJ10_inflate_1 ++ []
def dkwJ10_inflate_0 : List UInt8 := [29, 21, 4, 44, 184, 0, 173, 3, 54, 5, 21, 5, 21, 4, 162, 0, 27, 44, 29, 132, 3, 1, 42, 27]
abbrev dktJ10_inflate_0 : List UInt8 := dkwJ10_inflate_0 ++ dktJ10_inflate_1
theorem dksJ10_inflate_0 : cJ10_inflate.data.toList.drop 0 = dktJ10_inflate_0 := by decide +kernel
theorem dksJ10_inflate_1 : cJ10_inflate.data.toList.drop 24 = dktJ10_inflate_1 := dk_seg dksJ10_inflate_0 24 rfl rfl
theorem dJ10_inflate_0 : decode cJ10_inflate 0 = .ok (.iload_n 3, 1) := dk_29 (dk_at dksJ10_inflate_0 0 rfl rfl)
theorem dJ10_inflate_1 : decode cJ10_inflate 1 = .ok (.iload 4, 2) := dk_21 4 (dk_at dksJ10_inflate_0 1 rfl rfl)
theorem dJ10_inflate_3 : decode cJ10_inflate 3 = .ok (.aload_n 2, 1) := dk_44 (dk_at dksJ10_inflate_0 3 rfl rfl)
theorem dJ10_inflate_4 : decode cJ10_inflate 4 = .ok (.invokestatic 173, 3) := dk_184 0 173 (dk_at dksJ10_inflate_0 4 rfl rfl)
theorem dJ10_inflate_7 : decode cJ10_inflate 7 = .ok (.iconst 0, 1) := dk_3 (dk_at dksJ10_inflate_0 7 rfl rfl)
theorem dJ10_inflate_8 : decode cJ10_inflate 8 = .ok (.istore 5, 2) := dk_54 5 (dk_at dksJ10_inflate_0 8 rfl rfl)
theorem dJ10_inflate_10 : decode cJ10_inflate 10 = .ok (.iload 5, 2) := dk_21 5 (dk_at dksJ10_inflate_0 10 rfl rfl)
theorem dJ10_inflate_12 : decode cJ10_inflate 12 = .ok (.iload 4, 2) := dk_21 4 (dk_at dksJ10_inflate_0 12 rfl rfl)
theorem dJ10_inflate_14 : decode cJ10_inflate 14 = .ok (.if_icmp .ge 27, 3) := dk_162 0 27 (dk_at dksJ10_inflate_0 14 rfl rfl)
theorem dJ10_inflate_17 : decode cJ10_inflate 17 = .ok (.aload_n 2, 1) := dk_44 (dk_at dksJ10_inflate_0 17 rfl rfl)
theorem dJ10_inflate_18 : decode cJ10_inflate 18 = .ok (.iload_n 3, 1) := dk_29 (dk_at dksJ10_inflate_0 18 rfl rfl)
theorem dJ10_inflate_19 : decode cJ10_inflate 19 = .ok (.iinc 3 1, 3) := dk_132 3 1 (dk_at dksJ10_inflate_0 19 rfl rfl)
theorem dJ10_inflate_22 : decode cJ10_inflate 22 = .ok (.aload_n 0, 1) := dk_42 (dk_at dksJ10_inflate_0 22 rfl rfl)
theorem dJ10_inflate_23 : decode cJ10_inflate 23 = .ok (.iload_n 1, 1) := dk_27 (dk_at dksJ10_inflate_0 23 rfl rfl)
theorem dJ10_inflate_24 : decode cJ10_inflate 24 = .ok (.iinc 1 1, 3) := dk_132 1 1 (dk_at dksJ10_inflate_1 0 rfl rfl)
theorem dJ10_inflate_27 : decode cJ10_inflate 27 = .ok (.baload, 1) := dk_51 (dk_at dksJ10_inflate_1 3 rfl rfl)
theorem dJ10_inflate_28 : decode cJ10_inflate 28 = .ok (.sipush 255, 3) := dk_17 0 255 (dk_at dksJ10_inflate_1 4 rfl rfl)
theorem dJ10_inflate_31 : decode cJ10_inflate 31 = .ok (.iand, 1) := dk_126 (dk_at dksJ10_inflate_1 7 rfl rfl)
theorem dJ10_inflate_32 : decode cJ10_inflate 32 = .ok (.invokestatic 111, 3) := dk_184 0 111 (dk_at dksJ10_inflate_1 8 rfl rfl)
theorem dJ10_inflate_35 : decode cJ10_inflate 35 = .ok (.iinc 5 1, 3) := dk_132 5 1 (dk_at dksJ10_inflate_1 11 rfl rfl)
theorem dJ10_inflate_38 : decode cJ10_inflate 38 = .ok (.goto (-28), 3) := dk_167 255 228 (dk_at dksJ10_inflate_1 14 rfl rfl)
theorem dJ10_inflate_41 : decode cJ10_inflate 41 = .ok (.return_, 1) := dk_177 (dk_at dksJ10_inflate_1 17 rfl rfl)
abbrev cJ10_putCharSB : ByteArray := prog_39_method_71_code
def yJ10_putCharSB : MethodName := ⟨RJ10, "putCharSB", "([BII)V"⟩
def dkwJ10_putCharSB_0 : List UInt8 := [27, 42, 184, 0, 67, 42, 27, 28, 184, 0, 111, 177]
abbrev dktJ10_putCharSB_0 : List UInt8 := dkwJ10_putCharSB_0 ++ []
theorem dksJ10_putCharSB_0 : cJ10_putCharSB.data.toList.drop 0 = dktJ10_putCharSB_0 := by decide +kernel
theorem dJ10_putCharSB_0 : decode cJ10_putCharSB 0 = .ok (.iload_n 1, 1) := dk_27 (dk_at dksJ10_putCharSB_0 0 rfl rfl)
theorem dJ10_putCharSB_1 : decode cJ10_putCharSB 1 = .ok (.aload_n 0, 1) := dk_42 (dk_at dksJ10_putCharSB_0 1 rfl rfl)
theorem dJ10_putCharSB_2 : decode cJ10_putCharSB 2 = .ok (.invokestatic 67, 3) := dk_184 0 67 (dk_at dksJ10_putCharSB_0 2 rfl rfl)
theorem dJ10_putCharSB_5 : decode cJ10_putCharSB 5 = .ok (.aload_n 0, 1) := dk_42 (dk_at dksJ10_putCharSB_0 5 rfl rfl)
theorem dJ10_putCharSB_6 : decode cJ10_putCharSB 6 = .ok (.iload_n 1, 1) := dk_27 (dk_at dksJ10_putCharSB_0 6 rfl rfl)
theorem dJ10_putCharSB_7 : decode cJ10_putCharSB 7 = .ok (.iload_n 2, 1) := dk_28 (dk_at dksJ10_putCharSB_0 7 rfl rfl)
theorem dJ10_putCharSB_8 : decode cJ10_putCharSB 8 = .ok (.invokestatic 111, 3) := dk_184 0 111 (dk_at dksJ10_putCharSB_0 8 rfl rfl)
theorem dJ10_putCharSB_11 : decode cJ10_putCharSB 11 = .ok (.return_, 1) := dk_177 (dk_at dksJ10_putCharSB_0 11 rfl rfl)
abbrev cJ10_checkIndex : ByteArray := prog_39_method_91_code
def yJ10_checkIndex : MethodName := ⟨RJ10, "checkIndex", "(I[B)V"⟩
def dkwJ10_checkIndex_0 : List UInt8 := [26, 43, 184, 0, 48, 184, 1, 158, 177]
abbrev dktJ10_checkIndex_0 : List UInt8 := dkwJ10_checkIndex_0 ++ []
theorem dksJ10_checkIndex_0 : cJ10_checkIndex.data.toList.drop 0 = dktJ10_checkIndex_0 := by decide +kernel
theorem dJ10_checkIndex_0 : decode cJ10_checkIndex 0 = .ok (.iload_n 0, 1) := dk_26 (dk_at dksJ10_checkIndex_0 0 rfl rfl)
theorem dJ10_checkIndex_1 : decode cJ10_checkIndex 1 = .ok (.aload_n 1, 1) := dk_43 (dk_at dksJ10_checkIndex_0 1 rfl rfl)
theorem dJ10_checkIndex_2 : decode cJ10_checkIndex 2 = .ok (.invokestatic 48, 3) := dk_184 0 48 (dk_at dksJ10_checkIndex_0 2 rfl rfl)
theorem dJ10_checkIndex_5 : decode cJ10_checkIndex 5 = .ok (.invokestatic 414, 3) := dk_184 1 158 (dk_at dksJ10_checkIndex_0 5 rfl rfl)
theorem dJ10_checkIndex_8 : decode cJ10_checkIndex 8 = .ok (.return_, 1) := dk_177 (dk_at dksJ10_checkIndex_0 8 rfl rfl)
abbrev cJ10_charAt : ByteArray := prog_39_method_83_code
def yJ10_charAt : MethodName := ⟨RJ10, "charAt", "([BI)C"⟩
def dkwJ10_charAt_0 : List UInt8 := [27, 42, 184, 0, 67, 42, 27, 184, 0, 71, 172]
abbrev dktJ10_charAt_0 : List UInt8 := dkwJ10_charAt_0 ++ []
theorem dksJ10_charAt_0 : cJ10_charAt.data.toList.drop 0 = dktJ10_charAt_0 := by decide +kernel
theorem dJ10_charAt_0 : decode cJ10_charAt 0 = .ok (.iload_n 1, 1) := dk_27 (dk_at dksJ10_charAt_0 0 rfl rfl)
theorem dJ10_charAt_1 : decode cJ10_charAt 1 = .ok (.aload_n 0, 1) := dk_42 (dk_at dksJ10_charAt_0 1 rfl rfl)
theorem dJ10_charAt_2 : decode cJ10_charAt 2 = .ok (.invokestatic 67, 3) := dk_184 0 67 (dk_at dksJ10_charAt_0 2 rfl rfl)
theorem dJ10_charAt_5 : decode cJ10_charAt 5 = .ok (.aload_n 0, 1) := dk_42 (dk_at dksJ10_charAt_0 5 rfl rfl)
theorem dJ10_charAt_6 : decode cJ10_charAt 6 = .ok (.iload_n 1, 1) := dk_27 (dk_at dksJ10_charAt_0 6 rfl rfl)
theorem dJ10_charAt_7 : decode cJ10_charAt 7 = .ok (.invokestatic 71, 3) := dk_184 0 71 (dk_at dksJ10_charAt_0 7 rfl rfl)
theorem dJ10_charAt_10 : decode cJ10_charAt 10 = .ok (.ireturn, 1) := dk_172 (dk_at dksJ10_charAt_0 10 rfl rfl)
theorem q184 : (Jvm.Cond.initialized "java/lang/StringUTF16") ∈ lw_all := lw_g (lw_at lw_m1 18 rfl) rfl
theorem q665 : (Jvm.Cond.static ({ cls := "java/lang/StringUTF16", name := "compress", desc := "([CII)[B" } : Jvm.MethodName)) ∈ lw_all := lw_g (lw_at lw_m3 19 rfl) rfl
theorem q666 : (Jvm.Cond.code ({ cls := "java/lang/StringUTF16", name := "compress", desc := "([CII)[B" } : Jvm.MethodName) prog_39_method_16_code (6 : Nat) (Option.some (Jvm.ClassFile.FieldType.array Jvm.ClassFile.FieldType.byte))) ∈ lw_all := lw_g (lw_at lw_m3 20 rfl) rfl
theorem q667 : (Jvm.Cond.methodLink "java/lang/StringUTF16" (115 : Nat) ({ cls := "java/lang/StringUTF16", name := "compress", desc := "([CI[BII)I" } : Jvm.MethodName)) ∈ lw_all := lw_g (lw_at lw_m3 21 rfl) rfl
theorem q668 : (Jvm.Cond.static ({ cls := "java/lang/StringUTF16", name := "compress", desc := "([CI[BII)I" } : Jvm.MethodName)) ∈ lw_all := lw_g (lw_at lw_m3 22 rfl) rfl
theorem q669 : (Jvm.Cond.code ({ cls := "java/lang/StringUTF16", name := "compress", desc := "([CI[BII)I" } : Jvm.MethodName) prog_39_method_21_code (7 : Nat) (Option.some Jvm.ClassFile.FieldType.int)) ∈ lw_all := lw_g (lw_at lw_m3 23 rfl) rfl
theorem q670 : (Jvm.Cond.methodLink "java/lang/StringUTF16" (119 : Nat) ({ cls := "java/lang/StringUTF16", name := "toBytes", desc := "([CII)[B" } : Jvm.MethodName)) ∈ lw_all := lw_g (lw_at lw_m3 24 rfl) rfl
theorem q671 : (Jvm.Cond.static ({ cls := "java/lang/StringUTF16", name := "toBytes", desc := "([CII)[B" } : Jvm.MethodName)) ∈ lw_all := lw_g (lw_at lw_m3 25 rfl) rfl
theorem q672 : (Jvm.Cond.code ({ cls := "java/lang/StringUTF16", name := "toBytes", desc := "([CII)[B" } : Jvm.MethodName) prog_39_method_14_code (5 : Nat) (Option.some (Jvm.ClassFile.FieldType.array Jvm.ClassFile.FieldType.byte))) ∈ lw_all := lw_g (lw_at lw_m3 26 rfl) rfl
theorem q673 : (Jvm.Cond.methodLink "java/lang/StringUTF16" (107 : Nat) ({ cls := "java/lang/StringUTF16", name := "newBytesFor", desc := "(I)[B" } : Jvm.MethodName)) ∈ lw_all := lw_g (lw_at lw_m3 27 rfl) rfl
theorem q674 : (Jvm.Cond.static ({ cls := "java/lang/StringUTF16", name := "newBytesFor", desc := "(I)[B" } : Jvm.MethodName)) ∈ lw_all := lw_g (lw_at lw_m3 28 rfl) rfl
theorem q675 : (Jvm.Cond.code ({ cls := "java/lang/StringUTF16", name := "newBytesFor", desc := "(I)[B" } : Jvm.MethodName) prog_39_method_2_code (1 : Nat) (Option.some (Jvm.ClassFile.FieldType.array Jvm.ClassFile.FieldType.byte))) ∈ lw_all := lw_g (lw_at lw_m3 29 rfl) rfl
theorem q676 : (Jvm.Cond.methodLink "java/lang/StringUTF16" (11 : Nat) ({ cls := "java/lang/StringUTF16", name := "newBytesLength", desc := "(I)I" } : Jvm.MethodName)) ∈ lw_all := lw_g (lw_at lw_m3 30 rfl) rfl
theorem q677 : (Jvm.Cond.static ({ cls := "java/lang/StringUTF16", name := "newBytesLength", desc := "(I)I" } : Jvm.MethodName)) ∈ lw_all := lw_g (lw_at lw_m3 31 rfl) rfl
theorem q678 : (Jvm.Cond.code ({ cls := "java/lang/StringUTF16", name := "newBytesLength", desc := "(I)I" } : Jvm.MethodName) prog_39_method_3_code (1 : Nat) (Option.some Jvm.ClassFile.FieldType.int)) ∈ lw_all := lw_g (lw_at lw_m3 32 rfl) rfl
theorem q679 : (Jvm.Cond.constant "java/lang/StringUTF16" (20 : Nat) (1073741823 : Int32)) ∈ lw_all := lw_g (lw_at lw_m3 33 rfl) rfl
theorem q680 : (Jvm.Cond.methodLink "java/lang/StringUTF16" (111 : Nat) ({ cls := "java/lang/StringUTF16", name := "putChar", desc := "([BII)V" } : Jvm.MethodName)) ∈ lw_all := lw_g (lw_at lw_m3 34 rfl) rfl
theorem q681 : (Jvm.Cond.static ({ cls := "java/lang/StringUTF16", name := "putChar", desc := "([BII)V" } : Jvm.MethodName)) ∈ lw_all := lw_g (lw_at lw_m3 35 rfl) rfl
theorem q682 : (Jvm.Cond.code ({ cls := "java/lang/StringUTF16", name := "putChar", desc := "([BII)V" } : Jvm.MethodName) prog_39_method_4_code (3 : Nat) (Option.none : Option Jvm.ClassFile.FieldType)) ∈ lw_all := lw_g (lw_at lw_m3 36 rfl) rfl
theorem q683 : (Jvm.Cond.fieldLink "java/lang/StringUTF16" (44 : Nat) "java/lang/StringUTF16" "$assertionsDisabled" "Z") ∈ lw_all := lw_g (lw_at lw_m3 37 rfl) rfl
theorem q684 : (Jvm.Cond.laysStatic "java/lang/StringUTF16" "$assertionsDisabled" "Z") ∈ lw_tbl := lw_at lw_m3 38 rfl
theorem q685 : (Jvm.Cond.methodLink "java/lang/StringUTF16" (48 : Nat) ({ cls := "java/lang/StringUTF16", name := "length", desc := "([B)I" } : Jvm.MethodName)) ∈ lw_all := lw_g (lw_at lw_m3 39 rfl) rfl
theorem q686 : (Jvm.Cond.static ({ cls := "java/lang/StringUTF16", name := "length", desc := "([B)I" } : Jvm.MethodName)) ∈ lw_all := lw_g (lw_at lw_m3 40 rfl) rfl
theorem q687 : (Jvm.Cond.code ({ cls := "java/lang/StringUTF16", name := "length", desc := "([B)I" } : Jvm.MethodName) prog_39_method_6_code (1 : Nat) (Option.some Jvm.ClassFile.FieldType.int)) ∈ lw_all := lw_g (lw_at lw_m3 41 rfl) rfl
theorem q688 : (Jvm.Cond.fieldLink "java/lang/StringUTF16" (59 : Nat) "java/lang/StringUTF16" "HI_BYTE_SHIFT" "I") ∈ lw_all := lw_g (lw_at lw_m3 42 rfl) rfl
theorem q689 : (Jvm.Cond.laysStatic "java/lang/StringUTF16" "HI_BYTE_SHIFT" "I") ∈ lw_tbl := lw_at lw_m3 43 rfl
theorem q690 : (Jvm.Cond.fieldLink "java/lang/StringUTF16" (63 : Nat) "java/lang/StringUTF16" "LO_BYTE_SHIFT" "I") ∈ lw_all := lw_g (lw_at lw_m3 44 rfl) rfl
theorem q691 : (Jvm.Cond.laysStatic "java/lang/StringUTF16" "LO_BYTE_SHIFT" "I") ∈ lw_tbl := lw_at lw_m3 45 rfl
theorem q692 : (Jvm.Cond.methodLink "java/lang/StringUTF16" (71 : Nat) ({ cls := "java/lang/StringUTF16", name := "getChar", desc := "([BI)C" } : Jvm.MethodName)) ∈ lw_all := lw_g (lw_at lw_m3 46 rfl) rfl
theorem q693 : (Jvm.Cond.static ({ cls := "java/lang/StringUTF16", name := "getChar", desc := "([BI)C" } : Jvm.MethodName)) ∈ lw_all := lw_g (lw_at lw_m3 47 rfl) rfl
theorem q694 : (Jvm.Cond.code ({ cls := "java/lang/StringUTF16", name := "getChar", desc := "([BI)C" } : Jvm.MethodName) prog_39_method_5_code (2 : Nat) (Option.some Jvm.ClassFile.FieldType.char)) ∈ lw_all := lw_g (lw_at lw_m3 48 rfl) rfl
theorem q695 : (Jvm.Cond.methodLink "java/lang/StringUTF16" (123 : Nat) ({ cls := "java/lang/StringUTF16", name := "compress", desc := "([BI[BII)I" } : Jvm.MethodName)) ∈ lw_all := lw_g (lw_at lw_m3 49 rfl) rfl
theorem q696 : (Jvm.Cond.static ({ cls := "java/lang/StringUTF16", name := "compress", desc := "([BI[BII)I" } : Jvm.MethodName)) ∈ lw_all := lw_g (lw_at lw_m3 50 rfl) rfl
theorem q697 : (Jvm.Cond.code ({ cls := "java/lang/StringUTF16", name := "compress", desc := "([BI[BII)I" } : Jvm.MethodName) prog_39_method_22_code (7 : Nat) (Option.some Jvm.ClassFile.FieldType.int)) ∈ lw_all := lw_g (lw_at lw_m3 51 rfl) rfl
theorem q698 : (Jvm.Cond.methodLink "java/lang/StringUTF16" (173 : Nat) ({ cls := "java/lang/StringUTF16", name := "checkBoundsOffCount", desc := "(II[B)V" } : Jvm.MethodName)) ∈ lw_all := lw_g (lw_at lw_m3 52 rfl) rfl
theorem q699 : (Jvm.Cond.static ({ cls := "java/lang/StringUTF16", name := "checkBoundsOffCount", desc := "(II[B)V" } : Jvm.MethodName)) ∈ lw_all := lw_g (lw_at lw_m3 53 rfl) rfl
theorem q700 : (Jvm.Cond.code ({ cls := "java/lang/StringUTF16", name := "checkBoundsOffCount", desc := "(II[B)V" } : Jvm.MethodName) prog_39_method_94_code (3 : Nat) (Option.none : Option Jvm.ClassFile.FieldType)) ∈ lw_all := lw_g (lw_at lw_m3 54 rfl) rfl
theorem q701 : (Jvm.Cond.methodLink "java/lang/StringUTF16" (419 : Nat) ({ cls := "java/lang/String", name := "checkBoundsOffCount", desc := "(III)I" } : Jvm.MethodName)) ∈ lw_all := lw_g (lw_at lw_m3 55 rfl) rfl
theorem q710 : (Jvm.Cond.static ({ cls := "java/lang/StringUTF16", name := "coderFromArrayLen", desc := "([BI)B" } : Jvm.MethodName)) ∈ lw_all := lw_g (lw_at lw_m3 64 rfl) rfl
theorem q711 : (Jvm.Cond.code ({ cls := "java/lang/StringUTF16", name := "coderFromArrayLen", desc := "([BI)B" } : Jvm.MethodName) prog_39_method_15_code (2 : Nat) (Option.some Jvm.ClassFile.FieldType.byte)) ∈ lw_all := lw_g (lw_at lw_m3 65 rfl) rfl
theorem q781 : (Jvm.Cond.static ({ cls := "java/lang/StringUTF16", name := "hashCode", desc := "([B)I" } : Jvm.MethodName)) ∈ lw_all := lw_g (lw_at lw_m3 135 rfl) rfl
theorem q782 : (Jvm.Cond.code ({ cls := "java/lang/StringUTF16", name := "hashCode", desc := "([B)I" } : Jvm.MethodName) prog_39_method_39_code (1 : Nat) (Option.some Jvm.ClassFile.FieldType.int)) ∈ lw_all := lw_g (lw_at lw_m3 136 rfl) rfl
theorem q783 : (Jvm.Cond.methodLink "java/lang/StringUTF16" (220 : Nat) ({ cls := "jdk/internal/util/ArraysSupport", name := "vectorizedHashCode", desc := "(Ljava/lang/Object;IIII)I" } : Jvm.MethodName)) ∈ lw_all := lw_g (lw_at lw_m3 137 rfl) rfl
theorem q1207 : (Jvm.Cond.static ({ cls := "java/lang/StringUTF16", name := "inflate", desc := "([BI[BII)V" } : Jvm.MethodName)) ∈ lw_all := lw_g (lw_at lw_m5 81 rfl) rfl
theorem q1208 : (Jvm.Cond.code ({ cls := "java/lang/StringUTF16", name := "inflate", desc := "([BI[BII)V" } : Jvm.MethodName) prog_39_method_86_code (6 : Nat) (Option.none : Option Jvm.ClassFile.FieldType)) ∈ lw_all := lw_g (lw_at lw_m5 82 rfl) rfl
theorem q1210 : (Jvm.Cond.static ({ cls := "java/lang/StringUTF16", name := "putCharSB", desc := "([BII)V" } : Jvm.MethodName)) ∈ lw_all := lw_g (lw_at lw_m5 84 rfl) rfl
theorem q1211 : (Jvm.Cond.code ({ cls := "java/lang/StringUTF16", name := "putCharSB", desc := "([BII)V" } : Jvm.MethodName) prog_39_method_71_code (3 : Nat) (Option.none : Option Jvm.ClassFile.FieldType)) ∈ lw_all := lw_g (lw_at lw_m5 85 rfl) rfl
theorem q1212 : (Jvm.Cond.methodLink "java/lang/StringUTF16" (67 : Nat) ({ cls := "java/lang/StringUTF16", name := "checkIndex", desc := "(I[B)V" } : Jvm.MethodName)) ∈ lw_all := lw_g (lw_at lw_m5 86 rfl) rfl
theorem q1213 : (Jvm.Cond.static ({ cls := "java/lang/StringUTF16", name := "checkIndex", desc := "(I[B)V" } : Jvm.MethodName)) ∈ lw_all := lw_g (lw_at lw_m5 87 rfl) rfl
theorem q1214 : (Jvm.Cond.code ({ cls := "java/lang/StringUTF16", name := "checkIndex", desc := "(I[B)V" } : Jvm.MethodName) prog_39_method_91_code (2 : Nat) (Option.none : Option Jvm.ClassFile.FieldType)) ∈ lw_all := lw_g (lw_at lw_m5 88 rfl) rfl
theorem q1215 : (Jvm.Cond.methodLink "java/lang/StringUTF16" (414 : Nat) ({ cls := "java/lang/String", name := "checkIndex", desc := "(II)V" } : Jvm.MethodName)) ∈ lw_all := lw_g (lw_at lw_m5 89 rfl) rfl
theorem q1364 : (Jvm.Cond.static ({ cls := "java/lang/StringUTF16", name := "charAt", desc := "([BI)C" } : Jvm.MethodName)) ∈ lw_all := lw_g (lw_at lw_m5 238 rfl) rfl
theorem q1365 : (Jvm.Cond.code ({ cls := "java/lang/StringUTF16", name := "charAt", desc := "([BI)C" } : Jvm.MethodName) prog_39_method_83_code (2 : Nat) (Option.some Jvm.ClassFile.FieldType.char)) ∈ lw_all := lw_g (lw_at lw_m5 239 rfl) rfl
/-! java/lang/StringLatin1 -/
set_option maxRecDepth 100000
def RJ11 : String := "java/lang/StringLatin1"
abbrev cJ11_hashCode : ByteArray := prog_38_method_21_code
def yJ11_hashCode : MethodName := ⟨RJ11, "hashCode", "([B)I"⟩
def dkwJ11_hashCode_2 : List UInt8 := [3, 167, 0, 22, 42, 3, 51, 17, 0, 255, 126, 167, 0, 12, 42, 3, 42, 190, 3, 7, 184, 0, 84, 172]
abbrev dktJ11_hashCode_2 : List UInt8 := dkwJ11_hashCode_2 ++ []
def dkwJ11_hashCode_1 : List UInt8 := [171, 0, 0, 0, 0, 40, 0, 0, 0, 2, 0, 0, 0, 0, 0, 0, 0, 26, 0, 0, 0, 1, 0, 0, 0, 30]
abbrev dktJ11_hashCode_1 : List UInt8 := dkwJ11_hashCode_1 ++ dktJ11_hashCode_2
def dkwJ11_hashCode_0 : List UInt8 := [42, 190]
abbrev dktJ11_hashCode_0 : List UInt8 := dkwJ11_hashCode_0 ++ dktJ11_hashCode_1
theorem dksJ11_hashCode_0 : cJ11_hashCode.data.toList.drop 0 = dktJ11_hashCode_0 := by decide +kernel
theorem dksJ11_hashCode_1 : cJ11_hashCode.data.toList.drop 2 = dktJ11_hashCode_1 := dk_seg dksJ11_hashCode_0 2 rfl rfl
theorem dksJ11_hashCode_2 : cJ11_hashCode.data.toList.drop 28 = dktJ11_hashCode_2 := dk_seg dksJ11_hashCode_1 26 rfl rfl
theorem dJ11_hashCode_0 : decode cJ11_hashCode 0 = .ok (.aload_n 0, 1) := dk_42 (dk_at dksJ11_hashCode_0 0 rfl rfl)
theorem dJ11_hashCode_1 : decode cJ11_hashCode 1 = .ok (.arraylength, 1) := dk_190 (dk_at dksJ11_hashCode_0 1 rfl rfl)
theorem dJ11_hashCode_2 : decode cJ11_hashCode 2 = .ok (.lookupswitch 40 #[(0, 26), (1, 30)], 26) := by decide +kernel
theorem dJ11_hashCode_28 : decode cJ11_hashCode 28 = .ok (.iconst 0, 1) := dk_3 (dk_at dksJ11_hashCode_2 0 rfl rfl)
theorem dJ11_hashCode_29 : decode cJ11_hashCode 29 = .ok (.goto 22, 3) := dk_167 0 22 (dk_at dksJ11_hashCode_2 1 rfl rfl)
theorem dJ11_hashCode_32 : decode cJ11_hashCode 32 = .ok (.aload_n 0, 1) := dk_42 (dk_at dksJ11_hashCode_2 4 rfl rfl)
theorem dJ11_hashCode_33 : decode cJ11_hashCode 33 = .ok (.iconst 0, 1) := dk_3 (dk_at dksJ11_hashCode_2 5 rfl rfl)
theorem dJ11_hashCode_34 : decode cJ11_hashCode 34 = .ok (.baload, 1) := dk_51 (dk_at dksJ11_hashCode_2 6 rfl rfl)
theorem dJ11_hashCode_35 : decode cJ11_hashCode 35 = .ok (.sipush 255, 3) := dk_17 0 255 (dk_at dksJ11_hashCode_2 7 rfl rfl)
theorem dJ11_hashCode_38 : decode cJ11_hashCode 38 = .ok (.iand, 1) := dk_126 (dk_at dksJ11_hashCode_2 10 rfl rfl)
theorem dJ11_hashCode_39 : decode cJ11_hashCode 39 = .ok (.goto 12, 3) := dk_167 0 12 (dk_at dksJ11_hashCode_2 11 rfl rfl)
theorem dJ11_hashCode_42 : decode cJ11_hashCode 42 = .ok (.aload_n 0, 1) := dk_42 (dk_at dksJ11_hashCode_2 14 rfl rfl)
theorem dJ11_hashCode_43 : decode cJ11_hashCode 43 = .ok (.iconst 0, 1) := dk_3 (dk_at dksJ11_hashCode_2 15 rfl rfl)
theorem dJ11_hashCode_44 : decode cJ11_hashCode 44 = .ok (.aload_n 0, 1) := dk_42 (dk_at dksJ11_hashCode_2 16 rfl rfl)
theorem dJ11_hashCode_45 : decode cJ11_hashCode 45 = .ok (.arraylength, 1) := dk_190 (dk_at dksJ11_hashCode_2 17 rfl rfl)
theorem dJ11_hashCode_46 : decode cJ11_hashCode 46 = .ok (.iconst 0, 1) := dk_3 (dk_at dksJ11_hashCode_2 18 rfl rfl)
theorem dJ11_hashCode_47 : decode cJ11_hashCode 47 = .ok (.iconst 4, 1) := dk_7 (dk_at dksJ11_hashCode_2 19 rfl rfl)
theorem dJ11_hashCode_48 : decode cJ11_hashCode 48 = .ok (.invokestatic 84, 3) := dk_184 0 84 (dk_at dksJ11_hashCode_2 20 rfl rfl)
theorem dJ11_hashCode_51 : decode cJ11_hashCode 51 = .ok (.ireturn, 1) := dk_172 (dk_at dksJ11_hashCode_2 23 rfl rfl)
abbrev cJ11_equals : ByteArray := prog_38_method_13_code
def yJ11_equals : MethodName := ⟨RJ11, "equals", "([B[B)Z"⟩
def dkwJ11_equals_1 : List UInt8 := [3, 172, 132, 2, 1, 167, 255, 236, 4, 172, 3, 172]
abbrev dktJ11_equals_1 : List UInt8 := dkwJ11_equals_1 ++ []
def dkwJ11_equals_0 : List UInt8 := [42, 190, 43, 190, 160, 0, 30, 3, 61, 28, 42, 190, 162, 0, 20, 42, 28, 51, 43, 28, 51, 159, 0, 5]
abbrev dktJ11_equals_0 : List UInt8 := dkwJ11_equals_0 ++ dktJ11_equals_1
theorem dksJ11_equals_0 : cJ11_equals.data.toList.drop 0 = dktJ11_equals_0 := by decide +kernel
theorem dksJ11_equals_1 : cJ11_equals.data.toList.drop 24 = dktJ11_equals_1 := dk_seg dksJ11_equals_0 24 rfl rfl
theorem dJ11_equals_0 : decode cJ11_equals 0 = .ok (.aload_n 0, 1) := dk_42 (dk_at dksJ11_equals_0 0 rfl rfl)
theorem dJ11_equals_1 : decode cJ11_equals 1 = .ok (.arraylength, 1) := dk_190 (dk_at dksJ11_equals_0 1 rfl rfl)
theorem dJ11_equals_2 : decode cJ11_equals 2 = .ok (.aload_n 1, 1) := dk_43 (dk_at dksJ11_equals_0 2 rfl rfl)
theorem dJ11_equals_3 : decode cJ11_equals 3 = .ok (.arraylength, 1) := dk_190 (dk_at dksJ11_equals_0 3 rfl rfl)
theorem dJ11_equals_4 : decode cJ11_equals 4 = .ok (.if_icmp .ne 30, 3) := dk_160 0 30 (dk_at dksJ11_equals_0 4 rfl rfl)
theorem dJ11_equals_7 : decode cJ11_equals 7 = .ok (.iconst 0, 1) := dk_3 (dk_at dksJ11_equals_0 7 rfl rfl)
theorem dJ11_equals_8 : decode cJ11_equals 8 = .ok (.istore_n 2, 1) := dk_61 (dk_at dksJ11_equals_0 8 rfl rfl)
theorem dJ11_equals_9 : decode cJ11_equals 9 = .ok (.iload_n 2, 1) := dk_28 (dk_at dksJ11_equals_0 9 rfl rfl)
theorem dJ11_equals_10 : decode cJ11_equals 10 = .ok (.aload_n 0, 1) := dk_42 (dk_at dksJ11_equals_0 10 rfl rfl)
theorem dJ11_equals_11 : decode cJ11_equals 11 = .ok (.arraylength, 1) := dk_190 (dk_at dksJ11_equals_0 11 rfl rfl)
theorem dJ11_equals_12 : decode cJ11_equals 12 = .ok (.if_icmp .ge 20, 3) := dk_162 0 20 (dk_at dksJ11_equals_0 12 rfl rfl)
theorem dJ11_equals_15 : decode cJ11_equals 15 = .ok (.aload_n 0, 1) := dk_42 (dk_at dksJ11_equals_0 15 rfl rfl)
theorem dJ11_equals_16 : decode cJ11_equals 16 = .ok (.iload_n 2, 1) := dk_28 (dk_at dksJ11_equals_0 16 rfl rfl)
theorem dJ11_equals_17 : decode cJ11_equals 17 = .ok (.baload, 1) := dk_51 (dk_at dksJ11_equals_0 17 rfl rfl)
theorem dJ11_equals_18 : decode cJ11_equals 18 = .ok (.aload_n 1, 1) := dk_43 (dk_at dksJ11_equals_0 18 rfl rfl)
theorem dJ11_equals_19 : decode cJ11_equals 19 = .ok (.iload_n 2, 1) := dk_28 (dk_at dksJ11_equals_0 19 rfl rfl)
theorem dJ11_equals_20 : decode cJ11_equals 20 = .ok (.baload, 1) := dk_51 (dk_at dksJ11_equals_0 20 rfl rfl)
theorem dJ11_equals_21 : decode cJ11_equals 21 = .ok (.if_icmp .eq 5, 3) := dk_159 0 5 (dk_at dksJ11_equals_0 21 rfl rfl)
theorem dJ11_equals_24 : decode cJ11_equals 24 = .ok (.iconst 0, 1) := dk_3 (dk_at dksJ11_equals_1 0 rfl rfl)
theorem dJ11_equals_25 : decode cJ11_equals 25 = .ok (.ireturn, 1) := dk_172 (dk_at dksJ11_equals_1 1 rfl rfl)
theorem dJ11_equals_26 : decode cJ11_equals 26 = .ok (.iinc 2 1, 3) := dk_132 2 1 (dk_at dksJ11_equals_1 2 rfl rfl)
theorem dJ11_equals_29 : decode cJ11_equals 29 = .ok (.goto (-20), 3) := dk_167 255 236 (dk_at dksJ11_equals_1 5 rfl rfl)
theorem dJ11_equals_32 : decode cJ11_equals 32 = .ok (.iconst 1, 1) := dk_4 (dk_at dksJ11_equals_1 8 rfl rfl)
theorem dJ11_equals_33 : decode cJ11_equals 33 = .ok (.ireturn, 1) := dk_172 (dk_at dksJ11_equals_1 9 rfl rfl)
theorem dJ11_equals_34 : decode cJ11_equals 34 = .ok (.iconst 0, 1) := dk_3 (dk_at dksJ11_equals_1 10 rfl rfl)
theorem dJ11_equals_35 : decode cJ11_equals 35 = .ok (.ireturn, 1) := dk_172 (dk_at dksJ11_equals_1 11 rfl rfl)
abbrev cJ11_canEncode : ByteArray := prog_38_method_3_code
def yJ11_canEncode : MethodName := ⟨RJ11, "canEncode", "(C)Z"⟩
def dkwJ11_canEncode_0 : List UInt8 := [26, 17, 0, 255, 163, 0, 7, 4, 167, 0, 4, 3, 172]
abbrev dktJ11_canEncode_0 : List UInt8 := dkwJ11_canEncode_0 ++ []
theorem dksJ11_canEncode_0 : cJ11_canEncode.data.toList.drop 0 = dktJ11_canEncode_0 := by decide +kernel
theorem dJ11_canEncode_0 : decode cJ11_canEncode 0 = .ok (.iload_n 0, 1) := dk_26 (dk_at dksJ11_canEncode_0 0 rfl rfl)
theorem dJ11_canEncode_1 : decode cJ11_canEncode 1 = .ok (.sipush 255, 3) := dk_17 0 255 (dk_at dksJ11_canEncode_0 1 rfl rfl)
theorem dJ11_canEncode_4 : decode cJ11_canEncode 4 = .ok (.if_icmp .gt 7, 3) := dk_163 0 7 (dk_at dksJ11_canEncode_0 4 rfl rfl)
theorem dJ11_canEncode_7 : decode cJ11_canEncode 7 = .ok (.iconst 1, 1) := dk_4 (dk_at dksJ11_canEncode_0 7 rfl rfl)
theorem dJ11_canEncode_8 : decode cJ11_canEncode 8 = .ok (.goto 4, 3) := dk_167 0 4 (dk_at dksJ11_canEncode_0 8 rfl rfl)
theorem dJ11_canEncode_11 : decode cJ11_canEncode 11 = .ok (.iconst 0, 1) := dk_3 (dk_at dksJ11_canEncode_0 11 rfl rfl)
theorem dJ11_canEncode_12 : decode cJ11_canEncode 12 = .ok (.ireturn, 1) := dk_172 (dk_at dksJ11_canEncode_0 12 rfl rfl)
abbrev cJ11_inflate : ByteArray := prog_38_method_50_code
def yJ11_inflate : MethodName := ⟨RJ11, "inflate", "([BI[BII)V"⟩
def dkwJ11_inflate_0 : List UInt8 := [42, 27, 44, 29, 21, 4, 184, 0, 240, 177]
abbrev dktJ11_inflate_0 : List UInt8 := dkwJ11_inflate_0 ++ []
theorem dksJ11_inflate_0 : cJ11_inflate.data.toList.drop 0 = dktJ11_inflate_0 := by decide +kernel
theorem dJ11_inflate_0 : decode cJ11_inflate 0 = .ok (.aload_n 0, 1) := dk_42 (dk_at dksJ11_inflate_0 0 rfl rfl)
theorem dJ11_inflate_1 : decode cJ11_inflate 1 = .ok (.iload_n 1, 1) := dk_27 (dk_at dksJ11_inflate_0 1 rfl rfl)
theorem dJ11_inflate_2 : decode cJ11_inflate 2 = .ok (.aload_n 2, 1) := dk_44 (dk_at dksJ11_inflate_0 2 rfl rfl)
theorem dJ11_inflate_3 : decode cJ11_inflate 3 = .ok (.iload_n 3, 1) := dk_29 (dk_at dksJ11_inflate_0 3 rfl rfl)
theorem dJ11_inflate_4 : decode cJ11_inflate 4 = .ok (.iload 4, 2) := dk_21 4 (dk_at dksJ11_inflate_0 4 rfl rfl)
theorem dJ11_inflate_6 : decode cJ11_inflate 6 = .ok (.invokestatic 240, 3) := dk_184 0 240 (dk_at dksJ11_inflate_0 6 rfl rfl)
theorem dJ11_inflate_9 : decode cJ11_inflate 9 = .ok (.return_, 1) := dk_177 (dk_at dksJ11_inflate_0 9 rfl rfl)
abbrev cJ11_charAt : ByteArray := prog_38_method_2_code
def yJ11_charAt : MethodName := ⟨RJ11, "charAt", "([BI)C"⟩
def dkwJ11_charAt_0 : List UInt8 := [27, 42, 190, 184, 0, 9, 42, 27, 51, 17, 0, 255, 126, 146, 172]
abbrev dktJ11_charAt_0 : List UInt8 := dkwJ11_charAt_0 ++ []
theorem dksJ11_charAt_0 : cJ11_charAt.data.toList.drop 0 = dktJ11_charAt_0 := by decide +kernel
theorem dJ11_charAt_0 : decode cJ11_charAt 0 = .ok (.iload_n 1, 1) := dk_27 (dk_at dksJ11_charAt_0 0 rfl rfl)
theorem dJ11_charAt_1 : decode cJ11_charAt 1 = .ok (.aload_n 0, 1) := dk_42 (dk_at dksJ11_charAt_0 1 rfl rfl)
theorem dJ11_charAt_2 : decode cJ11_charAt 2 = .ok (.arraylength, 1) := dk_190 (dk_at dksJ11_charAt_0 2 rfl rfl)
theorem dJ11_charAt_3 : decode cJ11_charAt 3 = .ok (.invokestatic 9, 3) := dk_184 0 9 (dk_at dksJ11_charAt_0 3 rfl rfl)
theorem dJ11_charAt_6 : decode cJ11_charAt 6 = .ok (.aload_n 0, 1) := dk_42 (dk_at dksJ11_charAt_0 6 rfl rfl)
theorem dJ11_charAt_7 : decode cJ11_charAt 7 = .ok (.iload_n 1, 1) := dk_27 (dk_at dksJ11_charAt_0 7 rfl rfl)
theorem dJ11_charAt_8 : decode cJ11_charAt 8 = .ok (.baload, 1) := dk_51 (dk_at dksJ11_charAt_0 8 rfl rfl)
theorem dJ11_charAt_9 : decode cJ11_charAt 9 = .ok (.sipush 255, 3) := dk_17 0 255 (dk_at dksJ11_charAt_0 9 rfl rfl)
theorem dJ11_charAt_12 : decode cJ11_charAt 12 = .ok (.iand, 1) := dk_126 (dk_at dksJ11_charAt_0 12 rfl rfl)
theorem dJ11_charAt_13 : decode cJ11_charAt 13 = .ok (.i2c, 1) := dk_146 (dk_at dksJ11_charAt_0 13 rfl rfl)
theorem dJ11_charAt_14 : decode cJ11_charAt 14 = .ok (.ireturn, 1) := dk_172 (dk_at dksJ11_charAt_0 14 rfl rfl)
theorem q185 : (Jvm.Cond.initialized "java/lang/StringLatin1") ∈ lw_all := lw_g (lw_at lw_m1 19 rfl) rfl
theorem q740 : (Jvm.Cond.static ({ cls := "java/lang/StringLatin1", name := "hashCode", desc := "([B)I" } : Jvm.MethodName)) ∈ lw_all := lw_g (lw_at lw_m3 94 rfl) rfl
theorem q741 : (Jvm.Cond.code ({ cls := "java/lang/StringLatin1", name := "hashCode", desc := "([B)I" } : Jvm.MethodName) prog_38_method_21_code (1 : Nat) (Option.some Jvm.ClassFile.FieldType.int)) ∈ lw_all := lw_g (lw_at lw_m3 95 rfl) rfl
theorem q742 : (Jvm.Cond.methodLink "java/lang/StringLatin1" (84 : Nat) ({ cls := "jdk/internal/util/ArraysSupport", name := "vectorizedHashCode", desc := "(Ljava/lang/Object;IIII)I" } : Jvm.MethodName)) ∈ lw_all := lw_g (lw_at lw_m3 96 rfl) rfl
theorem q790 : (Jvm.Cond.static ({ cls := "java/lang/StringLatin1", name := "equals", desc := "([B[B)Z" } : Jvm.MethodName)) ∈ lw_all := lw_g (lw_at lw_m3 144 rfl) rfl
theorem q791 : (Jvm.Cond.code ({ cls := "java/lang/StringLatin1", name := "equals", desc := "([B[B)Z" } : Jvm.MethodName) prog_38_method_13_code (3 : Nat) (Option.some Jvm.ClassFile.FieldType.boolean)) ∈ lw_all := lw_g (lw_at lw_m3 145 rfl) rfl
theorem q1197 : (Jvm.Cond.static ({ cls := "java/lang/StringLatin1", name := "canEncode", desc := "(C)Z" } : Jvm.MethodName)) ∈ lw_all := lw_g (lw_at lw_m5 71 rfl) rfl
theorem q1198 : (Jvm.Cond.code ({ cls := "java/lang/StringLatin1", name := "canEncode", desc := "(C)Z" } : Jvm.MethodName) prog_38_method_3_code (1 : Nat) (Option.some Jvm.ClassFile.FieldType.boolean)) ∈ lw_all := lw_g (lw_at lw_m5 72 rfl) rfl
theorem q1204 : (Jvm.Cond.static ({ cls := "java/lang/StringLatin1", name := "inflate", desc := "([BI[BII)V" } : Jvm.MethodName)) ∈ lw_all := lw_g (lw_at lw_m5 78 rfl) rfl
theorem q1205 : (Jvm.Cond.code ({ cls := "java/lang/StringLatin1", name := "inflate", desc := "([BI[BII)V" } : Jvm.MethodName) prog_38_method_50_code (5 : Nat) (Option.none : Option Jvm.ClassFile.FieldType)) ∈ lw_all := lw_g (lw_at lw_m5 79 rfl) rfl
theorem q1206 : (Jvm.Cond.methodLink "java/lang/StringLatin1" (240 : Nat) ({ cls := "java/lang/StringUTF16", name := "inflate", desc := "([BI[BII)V" } : Jvm.MethodName)) ∈ lw_all := lw_g (lw_at lw_m5 80 rfl) rfl
theorem q1360 : (Jvm.Cond.static ({ cls := "java/lang/StringLatin1", name := "charAt", desc := "([BI)C" } : Jvm.MethodName)) ∈ lw_all := lw_g (lw_at lw_m5 234 rfl) rfl
theorem q1361 : (Jvm.Cond.code ({ cls := "java/lang/StringLatin1", name := "charAt", desc := "([BI)C" } : Jvm.MethodName) prog_38_method_2_code (2 : Nat) (Option.some Jvm.ClassFile.FieldType.char)) ∈ lw_all := lw_g (lw_at lw_m5 235 rfl) rfl
theorem q1362 : (Jvm.Cond.methodLink "java/lang/StringLatin1" (9 : Nat) ({ cls := "java/lang/String", name := "checkIndex", desc := "(II)V" } : Jvm.MethodName)) ∈ lw_all := lw_g (lw_at lw_m5 236 rfl) rfl
/-! jdk/internal/util/ArraysSupport -/
set_option maxRecDepth 100000
def RJ12 : String := "jdk/internal/util/ArraysSupport"
abbrev cJ12_vectorizedHashCode : ByteArray := prog_55_method_4_code
def yJ12_vectorizedHashCode : MethodName := ⟨RJ12, "vectorizedHashCode", "(Ljava/lang/Object;IIII)I"⟩
def dkwJ12_vectorizedHashCode_6 : List UInt8 := [183, 0, 91, 18, 92, 182, 0, 94, 21, 4, 182, 0, 98, 182, 0, 101, 183, 0, 105, 191, 172]
abbrev dktJ12_vectorizedHashCode_6 : List UInt8 := dkwJ12_vectorizedHashCode_6 ++ []
def dkwJ12_vectorizedHashCode_5 : List UInt8 := [167, 0, 44, 29, 42, 192, 0, 82, 27, 28, 184, 0, 84, 167, 0, 31, 187, 0, 87, 89, 187, 0, 89, 89]
abbrev dktJ12_vectorizedHashCode_5 : List UInt8 := dkwJ12_vectorizedHashCode_5 ++ dktJ12_vectorizedHashCode_6
def dkwJ12_vectorizedHashCode_4 : List UInt8 := [29, 42, 192, 0, 60, 27, 28, 184, 0, 75, 167, 0, 57, 29, 42, 192, 0, 77, 27, 28, 184, 0, 79]
abbrev dktJ12_vectorizedHashCode_4 : List UInt8 := dkwJ12_vectorizedHashCode_4 ++ dktJ12_vectorizedHashCode_5
def dkwJ12_vectorizedHashCode_3 : List UInt8 := [192, 0, 60, 27, 28, 184, 0, 66, 167, 0, 83, 29, 42, 192, 0, 69, 27, 28, 184, 0, 71, 167, 0, 70]
abbrev dktJ12_vectorizedHashCode_3 : List UInt8 := dkwJ12_vectorizedHashCode_3 ++ dktJ12_vectorizedHashCode_4
def dkwJ12_vectorizedHashCode_2 : List UInt8 := [29, 42, 192, 0, 60, 27, 28, 184, 0, 62, 167, 0, 103, 42, 193, 0, 60, 153, 0, 16, 29, 42]
abbrev dktJ12_vectorizedHashCode_2 : List UInt8 := dkwJ12_vectorizedHashCode_2 ++ dktJ12_vectorizedHashCode_3
def dkwJ12_vectorizedHashCode_1 : List UInt8 := [170, 0, 0, 0, 0, 127, 0, 0, 0, 4, 0, 0, 0, 10, 0, 0, 0, 42, 0, 0, 0, 55, 0, 0, 0, 127, 0, 0, 0, 127, 0, 0, 0, 88, 0, 0, 0, 101, 0, 0, 0, 114]
abbrev dktJ12_vectorizedHashCode_1 : List UInt8 := dkwJ12_vectorizedHashCode_1 ++ dktJ12_vectorizedHashCode_2
def dkwJ12_vectorizedHashCode_0 : List UInt8 := [21, 4]
abbrev dktJ12_vectorizedHashCode_0 : List UInt8 := dkwJ12_vectorizedHashCode_0 ++ dktJ12_vectorizedHashCode_1
theorem dksJ12_vectorizedHashCode_0 : cJ12_vectorizedHashCode.data.toList.drop 0 = dktJ12_vectorizedHashCode_0 := by decide +kernel
theorem dksJ12_vectorizedHashCode_1 : cJ12_vectorizedHashCode.data.toList.drop 2 = dktJ12_vectorizedHashCode_1 := dk_seg dksJ12_vectorizedHashCode_0 2 rfl rfl
theorem dksJ12_vectorizedHashCode_2 : cJ12_vectorizedHashCode.data.toList.drop 44 = dktJ12_vectorizedHashCode_2 := dk_seg dksJ12_vectorizedHashCode_1 42 rfl rfl
theorem dksJ12_vectorizedHashCode_3 : cJ12_vectorizedHashCode.data.toList.drop 66 = dktJ12_vectorizedHashCode_3 := dk_seg dksJ12_vectorizedHashCode_2 22 rfl rfl
theorem dksJ12_vectorizedHashCode_4 : cJ12_vectorizedHashCode.data.toList.drop 90 = dktJ12_vectorizedHashCode_4 := dk_seg dksJ12_vectorizedHashCode_3 24 rfl rfl
theorem dksJ12_vectorizedHashCode_5 : cJ12_vectorizedHashCode.data.toList.drop 113 = dktJ12_vectorizedHashCode_5 := dk_seg dksJ12_vectorizedHashCode_4 23 rfl rfl
theorem dksJ12_vectorizedHashCode_6 : cJ12_vectorizedHashCode.data.toList.drop 137 = dktJ12_vectorizedHashCode_6 := dk_seg dksJ12_vectorizedHashCode_5 24 rfl rfl
theorem dJ12_vectorizedHashCode_0 : decode cJ12_vectorizedHashCode 0 = .ok (.iload 4, 2) := dk_21 4 (dk_at dksJ12_vectorizedHashCode_0 0 rfl rfl)
theorem dJ12_vectorizedHashCode_2 : decode cJ12_vectorizedHashCode 2 = .ok (.tableswitch 127 4 10 #[42, 55, 127, 127, 88, 101, 114], 42) := by decide +kernel
theorem dJ12_vectorizedHashCode_44 : decode cJ12_vectorizedHashCode 44 = .ok (.iload_n 3, 1) := dk_29 (dk_at dksJ12_vectorizedHashCode_2 0 rfl rfl)
theorem dJ12_vectorizedHashCode_45 : decode cJ12_vectorizedHashCode 45 = .ok (.aload_n 0, 1) := dk_42 (dk_at dksJ12_vectorizedHashCode_2 1 rfl rfl)
theorem dJ12_vectorizedHashCode_46 : decode cJ12_vectorizedHashCode 46 = .ok (.checkcast 60, 3) := dk_192 0 60 (dk_at dksJ12_vectorizedHashCode_2 2 rfl rfl)
theorem dJ12_vectorizedHashCode_49 : decode cJ12_vectorizedHashCode 49 = .ok (.iload_n 1, 1) := dk_27 (dk_at dksJ12_vectorizedHashCode_2 5 rfl rfl)
theorem dJ12_vectorizedHashCode_50 : decode cJ12_vectorizedHashCode 50 = .ok (.iload_n 2, 1) := dk_28 (dk_at dksJ12_vectorizedHashCode_2 6 rfl rfl)
theorem dJ12_vectorizedHashCode_51 : decode cJ12_vectorizedHashCode 51 = .ok (.invokestatic 62, 3) := dk_184 0 62 (dk_at dksJ12_vectorizedHashCode_2 7 rfl rfl)
theorem dJ12_vectorizedHashCode_54 : decode cJ12_vectorizedHashCode 54 = .ok (.goto 103, 3) := dk_167 0 103 (dk_at dksJ12_vectorizedHashCode_2 10 rfl rfl)
theorem dJ12_vectorizedHashCode_57 : decode cJ12_vectorizedHashCode 57 = .ok (.aload_n 0, 1) := dk_42 (dk_at dksJ12_vectorizedHashCode_2 13 rfl rfl)
theorem dJ12_vectorizedHashCode_58 : decode cJ12_vectorizedHashCode 58 = .ok (.instanceof 60, 3) := dk_193 0 60 (dk_at dksJ12_vectorizedHashCode_2 14 rfl rfl)
theorem dJ12_vectorizedHashCode_61 : decode cJ12_vectorizedHashCode 61 = .ok (.ifCond .eq 16, 3) := dk_153 0 16 (dk_at dksJ12_vectorizedHashCode_2 17 rfl rfl)
theorem dJ12_vectorizedHashCode_64 : decode cJ12_vectorizedHashCode 64 = .ok (.iload_n 3, 1) := dk_29 (dk_at dksJ12_vectorizedHashCode_2 20 rfl rfl)
theorem dJ12_vectorizedHashCode_65 : decode cJ12_vectorizedHashCode 65 = .ok (.aload_n 0, 1) := dk_42 (dk_at dksJ12_vectorizedHashCode_2 21 rfl rfl)
theorem dJ12_vectorizedHashCode_66 : decode cJ12_vectorizedHashCode 66 = .ok (.checkcast 60, 3) := dk_192 0 60 (dk_at dksJ12_vectorizedHashCode_3 0 rfl rfl)
theorem dJ12_vectorizedHashCode_69 : decode cJ12_vectorizedHashCode 69 = .ok (.iload_n 1, 1) := dk_27 (dk_at dksJ12_vectorizedHashCode_3 3 rfl rfl)
theorem dJ12_vectorizedHashCode_70 : decode cJ12_vectorizedHashCode 70 = .ok (.iload_n 2, 1) := dk_28 (dk_at dksJ12_vectorizedHashCode_3 4 rfl rfl)
theorem dJ12_vectorizedHashCode_71 : decode cJ12_vectorizedHashCode 71 = .ok (.invokestatic 66, 3) := dk_184 0 66 (dk_at dksJ12_vectorizedHashCode_3 5 rfl rfl)
theorem dJ12_vectorizedHashCode_74 : decode cJ12_vectorizedHashCode 74 = .ok (.goto 83, 3) := dk_167 0 83 (dk_at dksJ12_vectorizedHashCode_3 8 rfl rfl)
theorem dJ12_vectorizedHashCode_77 : decode cJ12_vectorizedHashCode 77 = .ok (.iload_n 3, 1) := dk_29 (dk_at dksJ12_vectorizedHashCode_3 11 rfl rfl)
theorem dJ12_vectorizedHashCode_78 : decode cJ12_vectorizedHashCode 78 = .ok (.aload_n 0, 1) := dk_42 (dk_at dksJ12_vectorizedHashCode_3 12 rfl rfl)
theorem dJ12_vectorizedHashCode_79 : decode cJ12_vectorizedHashCode 79 = .ok (.checkcast 69, 3) := dk_192 0 69 (dk_at dksJ12_vectorizedHashCode_3 13 rfl rfl)
theorem dJ12_vectorizedHashCode_82 : decode cJ12_vectorizedHashCode 82 = .ok (.iload_n 1, 1) := dk_27 (dk_at dksJ12_vectorizedHashCode_3 16 rfl rfl)
theorem dJ12_vectorizedHashCode_83 : decode cJ12_vectorizedHashCode 83 = .ok (.iload_n 2, 1) := dk_28 (dk_at dksJ12_vectorizedHashCode_3 17 rfl rfl)
theorem dJ12_vectorizedHashCode_84 : decode cJ12_vectorizedHashCode 84 = .ok (.invokestatic 71, 3) := dk_184 0 71 (dk_at dksJ12_vectorizedHashCode_3 18 rfl rfl)
theorem dJ12_vectorizedHashCode_87 : decode cJ12_vectorizedHashCode 87 = .ok (.goto 70, 3) := dk_167 0 70 (dk_at dksJ12_vectorizedHashCode_3 21 rfl rfl)
theorem dJ12_vectorizedHashCode_90 : decode cJ12_vectorizedHashCode 90 = .ok (.iload_n 3, 1) := dk_29 (dk_at dksJ12_vectorizedHashCode_4 0 rfl rfl)
theorem dJ12_vectorizedHashCode_91 : decode cJ12_vectorizedHashCode 91 = .ok (.aload_n 0, 1) := dk_42 (dk_at dksJ12_vectorizedHashCode_4 1 rfl rfl)
theorem dJ12_vectorizedHashCode_92 : decode cJ12_vectorizedHashCode 92 = .ok (.checkcast 60, 3) := dk_192 0 60 (dk_at dksJ12_vectorizedHashCode_4 2 rfl rfl)
theorem dJ12_vectorizedHashCode_95 : decode cJ12_vectorizedHashCode 95 = .ok (.iload_n 1, 1) := dk_27 (dk_at dksJ12_vectorizedHashCode_4 5 rfl rfl)
theorem dJ12_vectorizedHashCode_96 : decode cJ12_vectorizedHashCode 96 = .ok (.iload_n 2, 1) := dk_28 (dk_at dksJ12_vectorizedHashCode_4 6 rfl rfl)
theorem dJ12_vectorizedHashCode_97 : decode cJ12_vectorizedHashCode 97 = .ok (.invokestatic 75, 3) := dk_184 0 75 (dk_at dksJ12_vectorizedHashCode_4 7 rfl rfl)
theorem dJ12_vectorizedHashCode_100 : decode cJ12_vectorizedHashCode 100 = .ok (.goto 57, 3) := dk_167 0 57 (dk_at dksJ12_vectorizedHashCode_4 10 rfl rfl)
theorem dJ12_vectorizedHashCode_103 : decode cJ12_vectorizedHashCode 103 = .ok (.iload_n 3, 1) := dk_29 (dk_at dksJ12_vectorizedHashCode_4 13 rfl rfl)
theorem dJ12_vectorizedHashCode_104 : decode cJ12_vectorizedHashCode 104 = .ok (.aload_n 0, 1) := dk_42 (dk_at dksJ12_vectorizedHashCode_4 14 rfl rfl)
theorem dJ12_vectorizedHashCode_105 : decode cJ12_vectorizedHashCode 105 = .ok (.checkcast 77, 3) := dk_192 0 77 (dk_at dksJ12_vectorizedHashCode_4 15 rfl rfl)
theorem dJ12_vectorizedHashCode_108 : decode cJ12_vectorizedHashCode 108 = .ok (.iload_n 1, 1) := dk_27 (dk_at dksJ12_vectorizedHashCode_4 18 rfl rfl)
theorem dJ12_vectorizedHashCode_109 : decode cJ12_vectorizedHashCode 109 = .ok (.iload_n 2, 1) := dk_28 (dk_at dksJ12_vectorizedHashCode_4 19 rfl rfl)
theorem dJ12_vectorizedHashCode_110 : decode cJ12_vectorizedHashCode 110 = .ok (.invokestatic 79, 3) := dk_184 0 79 (dk_at dksJ12_vectorizedHashCode_4 20 rfl rfl)
theorem dJ12_vectorizedHashCode_113 : decode cJ12_vectorizedHashCode 113 = .ok (.goto 44, 3) := dk_167 0 44 (dk_at dksJ12_vectorizedHashCode_5 0 rfl rfl)
theorem dJ12_vectorizedHashCode_116 : decode cJ12_vectorizedHashCode 116 = .ok (.iload_n 3, 1) := dk_29 (dk_at dksJ12_vectorizedHashCode_5 3 rfl rfl)
theorem dJ12_vectorizedHashCode_117 : decode cJ12_vectorizedHashCode 117 = .ok (.aload_n 0, 1) := dk_42 (dk_at dksJ12_vectorizedHashCode_5 4 rfl rfl)
theorem dJ12_vectorizedHashCode_118 : decode cJ12_vectorizedHashCode 118 = .ok (.checkcast 82, 3) := dk_192 0 82 (dk_at dksJ12_vectorizedHashCode_5 5 rfl rfl)
theorem dJ12_vectorizedHashCode_121 : decode cJ12_vectorizedHashCode 121 = .ok (.iload_n 1, 1) := dk_27 (dk_at dksJ12_vectorizedHashCode_5 8 rfl rfl)
theorem dJ12_vectorizedHashCode_122 : decode cJ12_vectorizedHashCode 122 = .ok (.iload_n 2, 1) := dk_28 (dk_at dksJ12_vectorizedHashCode_5 9 rfl rfl)
theorem dJ12_vectorizedHashCode_123 : decode cJ12_vectorizedHashCode 123 = .ok (.invokestatic 84, 3) := dk_184 0 84 (dk_at dksJ12_vectorizedHashCode_5 10 rfl rfl)
theorem dJ12_vectorizedHashCode_126 : decode cJ12_vectorizedHashCode 126 = .ok (.goto 31, 3) := dk_167 0 31 (dk_at dksJ12_vectorizedHashCode_5 13 rfl rfl)
theorem dJ12_vectorizedHashCode_129 : decode cJ12_vectorizedHashCode 129 = .ok (.new 87, 3) := dk_187 0 87 (dk_at dksJ12_vectorizedHashCode_5 16 rfl rfl)
theorem dJ12_vectorizedHashCode_132 : decode cJ12_vectorizedHashCode 132 = .ok (.dup, 1) := dk_89 (dk_at dksJ12_vectorizedHashCode_5 19 rfl rfl)
theorem dJ12_vectorizedHashCode_133 : decode cJ12_vectorizedHashCode 133 = .ok (.new 89, 3) := dk_187 0 89 (dk_at dksJ12_vectorizedHashCode_5 20 rfl rfl)
theorem dJ12_vectorizedHashCode_136 : decode cJ12_vectorizedHashCode 136 = .ok (.dup, 1) := dk_89 (dk_at dksJ12_vectorizedHashCode_5 23 rfl rfl)
theorem dJ12_vectorizedHashCode_137 : decode cJ12_vectorizedHashCode 137 = .ok (.invokespecial 91, 3) := dk_183 0 91 (dk_at dksJ12_vectorizedHashCode_6 0 rfl rfl)
theorem dJ12_vectorizedHashCode_140 : decode cJ12_vectorizedHashCode 140 = .ok (.ldc 92, 2) := dk_18 92 (dk_at dksJ12_vectorizedHashCode_6 3 rfl rfl)
theorem dJ12_vectorizedHashCode_142 : decode cJ12_vectorizedHashCode 142 = .ok (.invokevirtual 94, 3) := dk_182 0 94 (dk_at dksJ12_vectorizedHashCode_6 5 rfl rfl)
theorem dJ12_vectorizedHashCode_145 : decode cJ12_vectorizedHashCode 145 = .ok (.iload 4, 2) := dk_21 4 (dk_at dksJ12_vectorizedHashCode_6 8 rfl rfl)
theorem dJ12_vectorizedHashCode_147 : decode cJ12_vectorizedHashCode 147 = .ok (.invokevirtual 98, 3) := dk_182 0 98 (dk_at dksJ12_vectorizedHashCode_6 10 rfl rfl)
theorem dJ12_vectorizedHashCode_150 : decode cJ12_vectorizedHashCode 150 = .ok (.invokevirtual 101, 3) := dk_182 0 101 (dk_at dksJ12_vectorizedHashCode_6 13 rfl rfl)
theorem dJ12_vectorizedHashCode_153 : decode cJ12_vectorizedHashCode 153 = .ok (.invokespecial 105, 3) := dk_183 0 105 (dk_at dksJ12_vectorizedHashCode_6 16 rfl rfl)
theorem dJ12_vectorizedHashCode_156 : decode cJ12_vectorizedHashCode 156 = .ok (.athrow, 1) := dk_191 (dk_at dksJ12_vectorizedHashCode_6 19 rfl rfl)
theorem dJ12_vectorizedHashCode_157 : decode cJ12_vectorizedHashCode 157 = .ok (.ireturn, 1) := dk_172 (dk_at dksJ12_vectorizedHashCode_6 20 rfl rfl)
abbrev cJ12_signedHashCode : ByteArray := prog_55_method_5_code
def yJ12_signedHashCode : MethodName := ⟨RJ12, "signedHashCode", "(I[BII)I"⟩
def dkwJ12_signedHashCode_1 : List UInt8 := [17, 0, 255, 126, 96, 59, 132, 5, 1, 167, 255, 232, 26, 172]
abbrev dktJ12_signedHashCode_1 : List UInt8 := dkwJ12_signedHashCode_1 ++ []
def dkwJ12_signedHashCode_0 : List UInt8 := [28, 29, 96, 54, 4, 28, 54, 5, 21, 5, 21, 4, 162, 0, 23, 16, 31, 26, 104, 43, 21, 5, 51]
abbrev dktJ12_signedHashCode_0 : List UInt8 := dkwJ12_signedHashCode_0 ++ dktJ12_signedHashCode_1
theorem dksJ12_signedHashCode_0 : cJ12_signedHashCode.data.toList.drop 0 = dktJ12_signedHashCode_0 := by decide +kernel
theorem dksJ12_signedHashCode_1 : cJ12_signedHashCode.data.toList.drop 23 = dktJ12_signedHashCode_1 := dk_seg dksJ12_signedHashCode_0 23 rfl rfl
theorem dJ12_signedHashCode_0 : decode cJ12_signedHashCode 0 = .ok (.iload_n 2, 1) := dk_28 (dk_at dksJ12_signedHashCode_0 0 rfl rfl)
theorem dJ12_signedHashCode_1 : decode cJ12_signedHashCode 1 = .ok (.iload_n 3, 1) := dk_29 (dk_at dksJ12_signedHashCode_0 1 rfl rfl)
theorem dJ12_signedHashCode_2 : decode cJ12_signedHashCode 2 = .ok (.iadd, 1) := dk_96 (dk_at dksJ12_signedHashCode_0 2 rfl rfl)
theorem dJ12_signedHashCode_3 : decode cJ12_signedHashCode 3 = .ok (.istore 4, 2) := dk_54 4 (dk_at dksJ12_signedHashCode_0 3 rfl rfl)
theorem dJ12_signedHashCode_5 : decode cJ12_signedHashCode 5 = .ok (.iload_n 2, 1) := dk_28 (dk_at dksJ12_signedHashCode_0 5 rfl rfl)
theorem dJ12_signedHashCode_6 : decode cJ12_signedHashCode 6 = .ok (.istore 5, 2) := dk_54 5 (dk_at dksJ12_signedHashCode_0 6 rfl rfl)
theorem dJ12_signedHashCode_8 : decode cJ12_signedHashCode 8 = .ok (.iload 5, 2) := dk_21 5 (dk_at dksJ12_signedHashCode_0 8 rfl rfl)
theorem dJ12_signedHashCode_10 : decode cJ12_signedHashCode 10 = .ok (.iload 4, 2) := dk_21 4 (dk_at dksJ12_signedHashCode_0 10 rfl rfl)
theorem dJ12_signedHashCode_12 : decode cJ12_signedHashCode 12 = .ok (.if_icmp .ge 23, 3) := dk_162 0 23 (dk_at dksJ12_signedHashCode_0 12 rfl rfl)
theorem dJ12_signedHashCode_15 : decode cJ12_signedHashCode 15 = .ok (.bipush 31, 2) := dk_16 31 (dk_at dksJ12_signedHashCode_0 15 rfl rfl)
theorem dJ12_signedHashCode_17 : decode cJ12_signedHashCode 17 = .ok (.iload_n 0, 1) := dk_26 (dk_at dksJ12_signedHashCode_0 17 rfl rfl)
theorem dJ12_signedHashCode_18 : decode cJ12_signedHashCode 18 = .ok (.imul, 1) := dk_104 (dk_at dksJ12_signedHashCode_0 18 rfl rfl)
theorem dJ12_signedHashCode_19 : decode cJ12_signedHashCode 19 = .ok (.aload_n 1, 1) := dk_43 (dk_at dksJ12_signedHashCode_0 19 rfl rfl)
theorem dJ12_signedHashCode_20 : decode cJ12_signedHashCode 20 = .ok (.iload 5, 2) := dk_21 5 (dk_at dksJ12_signedHashCode_0 20 rfl rfl)
theorem dJ12_signedHashCode_22 : decode cJ12_signedHashCode 22 = .ok (.baload, 1) := dk_51 (dk_at dksJ12_signedHashCode_0 22 rfl rfl)
theorem dJ12_signedHashCode_23 : decode cJ12_signedHashCode 23 = .ok (.sipush 255, 3) := dk_17 0 255 (dk_at dksJ12_signedHashCode_1 0 rfl rfl)
theorem dJ12_signedHashCode_26 : decode cJ12_signedHashCode 26 = .ok (.iand, 1) := dk_126 (dk_at dksJ12_signedHashCode_1 3 rfl rfl)
theorem dJ12_signedHashCode_27 : decode cJ12_signedHashCode 27 = .ok (.iadd, 1) := dk_96 (dk_at dksJ12_signedHashCode_1 4 rfl rfl)
theorem dJ12_signedHashCode_28 : decode cJ12_signedHashCode 28 = .ok (.istore_n 0, 1) := dk_59 (dk_at dksJ12_signedHashCode_1 5 rfl rfl)
theorem dJ12_signedHashCode_29 : decode cJ12_signedHashCode 29 = .ok (.iinc 5 1, 3) := dk_132 5 1 (dk_at dksJ12_signedHashCode_1 6 rfl rfl)
theorem dJ12_signedHashCode_32 : decode cJ12_signedHashCode 32 = .ok (.goto (-24), 3) := dk_167 255 232 (dk_at dksJ12_signedHashCode_1 9 rfl rfl)
theorem dJ12_signedHashCode_35 : decode cJ12_signedHashCode 35 = .ok (.iload_n 0, 1) := dk_26 (dk_at dksJ12_signedHashCode_1 12 rfl rfl)
theorem dJ12_signedHashCode_36 : decode cJ12_signedHashCode 36 = .ok (.ireturn, 1) := dk_172 (dk_at dksJ12_signedHashCode_1 13 rfl rfl)
abbrev cJ12_utf16hashCode : ByteArray := prog_55_method_10_code
def yJ12_utf16hashCode : MethodName := ⟨RJ12, "utf16hashCode", "(I[BII)I"⟩
def dkwJ12_utf16hashCode_1 : List UInt8 := [21, 5, 185, 0, 110, 3, 0, 96, 59, 132, 5, 1, 167, 255, 229, 26, 172]
abbrev dktJ12_utf16hashCode_1 : List UInt8 := dkwJ12_utf16hashCode_1 ++ []
def dkwJ12_utf16hashCode_0 : List UInt8 := [28, 29, 96, 54, 4, 28, 54, 5, 21, 5, 21, 4, 162, 0, 26, 16, 31, 26, 104, 178, 0, 106, 43]
abbrev dktJ12_utf16hashCode_0 : List UInt8 := dkwJ12_utf16hashCode_0 ++ dktJ12_utf16hashCode_1
theorem dksJ12_utf16hashCode_0 : cJ12_utf16hashCode.data.toList.drop 0 = dktJ12_utf16hashCode_0 := by decide +kernel
theorem dksJ12_utf16hashCode_1 : cJ12_utf16hashCode.data.toList.drop 23 = dktJ12_utf16hashCode_1 := dk_seg dksJ12_utf16hashCode_0 23 rfl rfl
theorem dJ12_utf16hashCode_0 : decode cJ12_utf16hashCode 0 = .ok (.iload_n 2, 1) := dk_28 (dk_at dksJ12_utf16hashCode_0 0 rfl rfl)
theorem dJ12_utf16hashCode_1 : decode cJ12_utf16hashCode 1 = .ok (.iload_n 3, 1) := dk_29 (dk_at dksJ12_utf16hashCode_0 1 rfl rfl)
theorem dJ12_utf16hashCode_2 : decode cJ12_utf16hashCode 2 = .ok (.iadd, 1) := dk_96 (dk_at dksJ12_utf16hashCode_0 2 rfl rfl)
theorem dJ12_utf16hashCode_3 : decode cJ12_utf16hashCode 3 = .ok (.istore 4, 2) := dk_54 4 (dk_at dksJ12_utf16hashCode_0 3 rfl rfl)
theorem dJ12_utf16hashCode_5 : decode cJ12_utf16hashCode 5 = .ok (.iload_n 2, 1) := dk_28 (dk_at dksJ12_utf16hashCode_0 5 rfl rfl)
theorem dJ12_utf16hashCode_6 : decode cJ12_utf16hashCode 6 = .ok (.istore 5, 2) := dk_54 5 (dk_at dksJ12_utf16hashCode_0 6 rfl rfl)
theorem dJ12_utf16hashCode_8 : decode cJ12_utf16hashCode 8 = .ok (.iload 5, 2) := dk_21 5 (dk_at dksJ12_utf16hashCode_0 8 rfl rfl)
theorem dJ12_utf16hashCode_10 : decode cJ12_utf16hashCode 10 = .ok (.iload 4, 2) := dk_21 4 (dk_at dksJ12_utf16hashCode_0 10 rfl rfl)
theorem dJ12_utf16hashCode_12 : decode cJ12_utf16hashCode 12 = .ok (.if_icmp .ge 26, 3) := dk_162 0 26 (dk_at dksJ12_utf16hashCode_0 12 rfl rfl)
theorem dJ12_utf16hashCode_15 : decode cJ12_utf16hashCode 15 = .ok (.bipush 31, 2) := dk_16 31 (dk_at dksJ12_utf16hashCode_0 15 rfl rfl)
theorem dJ12_utf16hashCode_17 : decode cJ12_utf16hashCode 17 = .ok (.iload_n 0, 1) := dk_26 (dk_at dksJ12_utf16hashCode_0 17 rfl rfl)
theorem dJ12_utf16hashCode_18 : decode cJ12_utf16hashCode 18 = .ok (.imul, 1) := dk_104 (dk_at dksJ12_utf16hashCode_0 18 rfl rfl)
theorem dJ12_utf16hashCode_19 : decode cJ12_utf16hashCode 19 = .ok (.getstatic 106, 3) := dk_178 0 106 (dk_at dksJ12_utf16hashCode_0 19 rfl rfl)
theorem dJ12_utf16hashCode_22 : decode cJ12_utf16hashCode 22 = .ok (.aload_n 1, 1) := dk_43 (dk_at dksJ12_utf16hashCode_0 22 rfl rfl)
theorem dJ12_utf16hashCode_23 : decode cJ12_utf16hashCode 23 = .ok (.iload 5, 2) := dk_21 5 (dk_at dksJ12_utf16hashCode_1 0 rfl rfl)
theorem dJ12_utf16hashCode_25 : decode cJ12_utf16hashCode 25 = .ok (.invokeinterface 110 3, 5) := by decide +kernel
theorem dJ12_utf16hashCode_30 : decode cJ12_utf16hashCode 30 = .ok (.iadd, 1) := dk_96 (dk_at dksJ12_utf16hashCode_1 7 rfl rfl)
theorem dJ12_utf16hashCode_31 : decode cJ12_utf16hashCode 31 = .ok (.istore_n 0, 1) := dk_59 (dk_at dksJ12_utf16hashCode_1 8 rfl rfl)
theorem dJ12_utf16hashCode_32 : decode cJ12_utf16hashCode 32 = .ok (.iinc 5 1, 3) := dk_132 5 1 (dk_at dksJ12_utf16hashCode_1 9 rfl rfl)
theorem dJ12_utf16hashCode_35 : decode cJ12_utf16hashCode 35 = .ok (.goto (-27), 3) := dk_167 255 229 (dk_at dksJ12_utf16hashCode_1 12 rfl rfl)
theorem dJ12_utf16hashCode_38 : decode cJ12_utf16hashCode 38 = .ok (.iload_n 0, 1) := dk_26 (dk_at dksJ12_utf16hashCode_1 15 rfl rfl)
theorem dJ12_utf16hashCode_39 : decode cJ12_utf16hashCode 39 = .ok (.ireturn, 1) := dk_172 (dk_at dksJ12_utf16hashCode_1 16 rfl rfl)
abbrev cJ12_hashCode : ByteArray := prog_55_method_7_code
def yJ12_hashCode : MethodName := ⟨RJ12, "hashCode", "(I[CII)I"⟩
def dkwJ12_hashCode_1 : List UInt8 := [59, 132, 5, 1, 167, 255, 236, 26, 172]
abbrev dktJ12_hashCode_1 : List UInt8 := dkwJ12_hashCode_1 ++ []
def dkwJ12_hashCode_0 : List UInt8 := [28, 29, 96, 54, 4, 28, 54, 5, 21, 5, 21, 4, 162, 0, 19, 16, 31, 26, 104, 43, 21, 5, 52, 96]
abbrev dktJ12_hashCode_0 : List UInt8 := dkwJ12_hashCode_0 ++ dktJ12_hashCode_1
theorem dksJ12_hashCode_0 : cJ12_hashCode.data.toList.drop 0 = dktJ12_hashCode_0 := by decide +kernel
theorem dksJ12_hashCode_1 : cJ12_hashCode.data.toList.drop 24 = dktJ12_hashCode_1 := dk_seg dksJ12_hashCode_0 24 rfl rfl
theorem dJ12_hashCode_0 : decode cJ12_hashCode 0 = .ok (.iload_n 2, 1) := dk_28 (dk_at dksJ12_hashCode_0 0 rfl rfl)
theorem dJ12_hashCode_1 : decode cJ12_hashCode 1 = .ok (.iload_n 3, 1) := dk_29 (dk_at dksJ12_hashCode_0 1 rfl rfl)
theorem dJ12_hashCode_2 : decode cJ12_hashCode 2 = .ok (.iadd, 1) := dk_96 (dk_at dksJ12_hashCode_0 2 rfl rfl)
theorem dJ12_hashCode_3 : decode cJ12_hashCode 3 = .ok (.istore 4, 2) := dk_54 4 (dk_at dksJ12_hashCode_0 3 rfl rfl)
theorem dJ12_hashCode_5 : decode cJ12_hashCode 5 = .ok (.iload_n 2, 1) := dk_28 (dk_at dksJ12_hashCode_0 5 rfl rfl)
theorem dJ12_hashCode_6 : decode cJ12_hashCode 6 = .ok (.istore 5, 2) := dk_54 5 (dk_at dksJ12_hashCode_0 6 rfl rfl)
theorem dJ12_hashCode_8 : decode cJ12_hashCode 8 = .ok (.iload 5, 2) := dk_21 5 (dk_at dksJ12_hashCode_0 8 rfl rfl)
theorem dJ12_hashCode_10 : decode cJ12_hashCode 10 = .ok (.iload 4, 2) := dk_21 4 (dk_at dksJ12_hashCode_0 10 rfl rfl)
theorem dJ12_hashCode_12 : decode cJ12_hashCode 12 = .ok (.if_icmp .ge 19, 3) := dk_162 0 19 (dk_at dksJ12_hashCode_0 12 rfl rfl)
theorem dJ12_hashCode_15 : decode cJ12_hashCode 15 = .ok (.bipush 31, 2) := dk_16 31 (dk_at dksJ12_hashCode_0 15 rfl rfl)
theorem dJ12_hashCode_17 : decode cJ12_hashCode 17 = .ok (.iload_n 0, 1) := dk_26 (dk_at dksJ12_hashCode_0 17 rfl rfl)
theorem dJ12_hashCode_18 : decode cJ12_hashCode 18 = .ok (.imul, 1) := dk_104 (dk_at dksJ12_hashCode_0 18 rfl rfl)
theorem dJ12_hashCode_19 : decode cJ12_hashCode 19 = .ok (.aload_n 1, 1) := dk_43 (dk_at dksJ12_hashCode_0 19 rfl rfl)
theorem dJ12_hashCode_20 : decode cJ12_hashCode 20 = .ok (.iload 5, 2) := dk_21 5 (dk_at dksJ12_hashCode_0 20 rfl rfl)
theorem dJ12_hashCode_22 : decode cJ12_hashCode 22 = .ok (.caload, 1) := dk_52 (dk_at dksJ12_hashCode_0 22 rfl rfl)
theorem dJ12_hashCode_23 : decode cJ12_hashCode 23 = .ok (.iadd, 1) := dk_96 (dk_at dksJ12_hashCode_0 23 rfl rfl)
theorem dJ12_hashCode_24 : decode cJ12_hashCode 24 = .ok (.istore_n 0, 1) := dk_59 (dk_at dksJ12_hashCode_1 0 rfl rfl)
theorem dJ12_hashCode_25 : decode cJ12_hashCode 25 = .ok (.iinc 5 1, 3) := dk_132 5 1 (dk_at dksJ12_hashCode_1 1 rfl rfl)
theorem dJ12_hashCode_28 : decode cJ12_hashCode 28 = .ok (.goto (-20), 3) := dk_167 255 236 (dk_at dksJ12_hashCode_1 4 rfl rfl)
theorem dJ12_hashCode_31 : decode cJ12_hashCode 31 = .ok (.iload_n 0, 1) := dk_26 (dk_at dksJ12_hashCode_1 7 rfl rfl)
theorem dJ12_hashCode_32 : decode cJ12_hashCode 32 = .ok (.ireturn, 1) := dk_172 (dk_at dksJ12_hashCode_1 8 rfl rfl)
abbrev cJ12_hashCode_2 : ByteArray := prog_55_method_6_code
def yJ12_hashCode_2 : MethodName := ⟨RJ12, "hashCode", "(I[BII)I"⟩
def dkwJ12_hashCode_2_1 : List UInt8 := [59, 132, 5, 1, 167, 255, 236, 26, 172]
abbrev dktJ12_hashCode_2_1 : List UInt8 := dkwJ12_hashCode_2_1 ++ []
def dkwJ12_hashCode_2_0 : List UInt8 := [28, 29, 96, 54, 4, 28, 54, 5, 21, 5, 21, 4, 162, 0, 19, 16, 31, 26, 104, 43, 21, 5, 51, 96]
abbrev dktJ12_hashCode_2_0 : List UInt8 := dkwJ12_hashCode_2_0 ++ dktJ12_hashCode_2_1
theorem dksJ12_hashCode_2_0 : cJ12_hashCode_2.data.toList.drop 0 = dktJ12_hashCode_2_0 := by decide +kernel
theorem dksJ12_hashCode_2_1 : cJ12_hashCode_2.data.toList.drop 24 = dktJ12_hashCode_2_1 := dk_seg dksJ12_hashCode_2_0 24 rfl rfl
theorem dJ12_hashCode_2_0 : decode cJ12_hashCode_2 0 = .ok (.iload_n 2, 1) := dk_28 (dk_at dksJ12_hashCode_2_0 0 rfl rfl)
theorem dJ12_hashCode_2_1 : decode cJ12_hashCode_2 1 = .ok (.iload_n 3, 1) := dk_29 (dk_at dksJ12_hashCode_2_0 1 rfl rfl)
theorem dJ12_hashCode_2_2 : decode cJ12_hashCode_2 2 = .ok (.iadd, 1) := dk_96 (dk_at dksJ12_hashCode_2_0 2 rfl rfl)
theorem dJ12_hashCode_2_3 : decode cJ12_hashCode_2 3 = .ok (.istore 4, 2) := dk_54 4 (dk_at dksJ12_hashCode_2_0 3 rfl rfl)
theorem dJ12_hashCode_2_5 : decode cJ12_hashCode_2 5 = .ok (.iload_n 2, 1) := dk_28 (dk_at dksJ12_hashCode_2_0 5 rfl rfl)
theorem dJ12_hashCode_2_6 : decode cJ12_hashCode_2 6 = .ok (.istore 5, 2) := dk_54 5 (dk_at dksJ12_hashCode_2_0 6 rfl rfl)
theorem dJ12_hashCode_2_8 : decode cJ12_hashCode_2 8 = .ok (.iload 5, 2) := dk_21 5 (dk_at dksJ12_hashCode_2_0 8 rfl rfl)
theorem dJ12_hashCode_2_10 : decode cJ12_hashCode_2 10 = .ok (.iload 4, 2) := dk_21 4 (dk_at dksJ12_hashCode_2_0 10 rfl rfl)
theorem dJ12_hashCode_2_12 : decode cJ12_hashCode_2 12 = .ok (.if_icmp .ge 19, 3) := dk_162 0 19 (dk_at dksJ12_hashCode_2_0 12 rfl rfl)
theorem dJ12_hashCode_2_15 : decode cJ12_hashCode_2 15 = .ok (.bipush 31, 2) := dk_16 31 (dk_at dksJ12_hashCode_2_0 15 rfl rfl)
theorem dJ12_hashCode_2_17 : decode cJ12_hashCode_2 17 = .ok (.iload_n 0, 1) := dk_26 (dk_at dksJ12_hashCode_2_0 17 rfl rfl)
theorem dJ12_hashCode_2_18 : decode cJ12_hashCode_2 18 = .ok (.imul, 1) := dk_104 (dk_at dksJ12_hashCode_2_0 18 rfl rfl)
theorem dJ12_hashCode_2_19 : decode cJ12_hashCode_2 19 = .ok (.aload_n 1, 1) := dk_43 (dk_at dksJ12_hashCode_2_0 19 rfl rfl)
theorem dJ12_hashCode_2_20 : decode cJ12_hashCode_2 20 = .ok (.iload 5, 2) := dk_21 5 (dk_at dksJ12_hashCode_2_0 20 rfl rfl)
theorem dJ12_hashCode_2_22 : decode cJ12_hashCode_2 22 = .ok (.baload, 1) := dk_51 (dk_at dksJ12_hashCode_2_0 22 rfl rfl)
theorem dJ12_hashCode_2_23 : decode cJ12_hashCode_2 23 = .ok (.iadd, 1) := dk_96 (dk_at dksJ12_hashCode_2_0 23 rfl rfl)
theorem dJ12_hashCode_2_24 : decode cJ12_hashCode_2 24 = .ok (.istore_n 0, 1) := dk_59 (dk_at dksJ12_hashCode_2_1 0 rfl rfl)
theorem dJ12_hashCode_2_25 : decode cJ12_hashCode_2 25 = .ok (.iinc 5 1, 3) := dk_132 5 1 (dk_at dksJ12_hashCode_2_1 1 rfl rfl)
theorem dJ12_hashCode_2_28 : decode cJ12_hashCode_2 28 = .ok (.goto (-20), 3) := dk_167 255 236 (dk_at dksJ12_hashCode_2_1 4 rfl rfl)
theorem dJ12_hashCode_2_31 : decode cJ12_hashCode_2 31 = .ok (.iload_n 0, 1) := dk_26 (dk_at dksJ12_hashCode_2_1 7 rfl rfl)
theorem dJ12_hashCode_2_32 : decode cJ12_hashCode_2 32 = .ok (.ireturn, 1) := dk_172 (dk_at dksJ12_hashCode_2_1 8 rfl rfl)
abbrev cJ12_hashCode_3 : ByteArray := prog_55_method_8_code
def yJ12_hashCode_3 : MethodName := ⟨RJ12, "hashCode", "(I[SII)I"⟩
def dkwJ12_hashCode_3_1 : List UInt8 := [59, 132, 5, 1, 167, 255, 236, 26, 172]
abbrev dktJ12_hashCode_3_1 : List UInt8 := dkwJ12_hashCode_3_1 ++ []
def dkwJ12_hashCode_3_0 : List UInt8 := [28, 29, 96, 54, 4, 28, 54, 5, 21, 5, 21, 4, 162, 0, 19, 16, 31, 26, 104, 43, 21, 5, 53, 96]
abbrev dktJ12_hashCode_3_0 : List UInt8 := dkwJ12_hashCode_3_0 ++ dktJ12_hashCode_3_1
theorem dksJ12_hashCode_3_0 : cJ12_hashCode_3.data.toList.drop 0 = dktJ12_hashCode_3_0 := by decide +kernel
theorem dksJ12_hashCode_3_1 : cJ12_hashCode_3.data.toList.drop 24 = dktJ12_hashCode_3_1 := dk_seg dksJ12_hashCode_3_0 24 rfl rfl
theorem dJ12_hashCode_3_0 : decode cJ12_hashCode_3 0 = .ok (.iload_n 2, 1) := dk_28 (dk_at dksJ12_hashCode_3_0 0 rfl rfl)
theorem dJ12_hashCode_3_1 : decode cJ12_hashCode_3 1 = .ok (.iload_n 3, 1) := dk_29 (dk_at dksJ12_hashCode_3_0 1 rfl rfl)
theorem dJ12_hashCode_3_2 : decode cJ12_hashCode_3 2 = .ok (.iadd, 1) := dk_96 (dk_at dksJ12_hashCode_3_0 2 rfl rfl)
theorem dJ12_hashCode_3_3 : decode cJ12_hashCode_3 3 = .ok (.istore 4, 2) := dk_54 4 (dk_at dksJ12_hashCode_3_0 3 rfl rfl)
theorem dJ12_hashCode_3_5 : decode cJ12_hashCode_3 5 = .ok (.iload_n 2, 1) := dk_28 (dk_at dksJ12_hashCode_3_0 5 rfl rfl)
theorem dJ12_hashCode_3_6 : decode cJ12_hashCode_3 6 = .ok (.istore 5, 2) := dk_54 5 (dk_at dksJ12_hashCode_3_0 6 rfl rfl)
theorem dJ12_hashCode_3_8 : decode cJ12_hashCode_3 8 = .ok (.iload 5, 2) := dk_21 5 (dk_at dksJ12_hashCode_3_0 8 rfl rfl)
theorem dJ12_hashCode_3_10 : decode cJ12_hashCode_3 10 = .ok (.iload 4, 2) := dk_21 4 (dk_at dksJ12_hashCode_3_0 10 rfl rfl)
theorem dJ12_hashCode_3_12 : decode cJ12_hashCode_3 12 = .ok (.if_icmp .ge 19, 3) := dk_162 0 19 (dk_at dksJ12_hashCode_3_0 12 rfl rfl)
theorem dJ12_hashCode_3_15 : decode cJ12_hashCode_3 15 = .ok (.bipush 31, 2) := dk_16 31 (dk_at dksJ12_hashCode_3_0 15 rfl rfl)
theorem dJ12_hashCode_3_17 : decode cJ12_hashCode_3 17 = .ok (.iload_n 0, 1) := dk_26 (dk_at dksJ12_hashCode_3_0 17 rfl rfl)
theorem dJ12_hashCode_3_18 : decode cJ12_hashCode_3 18 = .ok (.imul, 1) := dk_104 (dk_at dksJ12_hashCode_3_0 18 rfl rfl)
theorem dJ12_hashCode_3_19 : decode cJ12_hashCode_3 19 = .ok (.aload_n 1, 1) := dk_43 (dk_at dksJ12_hashCode_3_0 19 rfl rfl)
theorem dJ12_hashCode_3_20 : decode cJ12_hashCode_3 20 = .ok (.iload 5, 2) := dk_21 5 (dk_at dksJ12_hashCode_3_0 20 rfl rfl)
theorem dJ12_hashCode_3_22 : decode cJ12_hashCode_3 22 = .ok (.saload, 1) := dk_53 (dk_at dksJ12_hashCode_3_0 22 rfl rfl)
theorem dJ12_hashCode_3_23 : decode cJ12_hashCode_3 23 = .ok (.iadd, 1) := dk_96 (dk_at dksJ12_hashCode_3_0 23 rfl rfl)
theorem dJ12_hashCode_3_24 : decode cJ12_hashCode_3 24 = .ok (.istore_n 0, 1) := dk_59 (dk_at dksJ12_hashCode_3_1 0 rfl rfl)
theorem dJ12_hashCode_3_25 : decode cJ12_hashCode_3 25 = .ok (.iinc 5 1, 3) := dk_132 5 1 (dk_at dksJ12_hashCode_3_1 1 rfl rfl)
theorem dJ12_hashCode_3_28 : decode cJ12_hashCode_3 28 = .ok (.goto (-20), 3) := dk_167 255 236 (dk_at dksJ12_hashCode_3_1 4 rfl rfl)
theorem dJ12_hashCode_3_31 : decode cJ12_hashCode_3 31 = .ok (.iload_n 0, 1) := dk_26 (dk_at dksJ12_hashCode_3_1 7 rfl rfl)
theorem dJ12_hashCode_3_32 : decode cJ12_hashCode_3 32 = .ok (.ireturn, 1) := dk_172 (dk_at dksJ12_hashCode_3_1 8 rfl rfl)
abbrev cJ12_hashCode_4 : ByteArray := prog_55_method_9_code
def yJ12_hashCode_4 : MethodName := ⟨RJ12, "hashCode", "(I[III)I"⟩
def dkwJ12_hashCode_4_1 : List UInt8 := [59, 132, 5, 1, 167, 255, 236, 26, 172]
abbrev dktJ12_hashCode_4_1 : List UInt8 := dkwJ12_hashCode_4_1 ++ []
def dkwJ12_hashCode_4_0 : List UInt8 := [28, 29, 96, 54, 4, 28, 54, 5, 21, 5, 21, 4, 162, 0, 19, 16, 31, 26, 104, 43, 21, 5, 46, 96]
abbrev dktJ12_hashCode_4_0 : List UInt8 := dkwJ12_hashCode_4_0 ++ dktJ12_hashCode_4_1
theorem dksJ12_hashCode_4_0 : cJ12_hashCode_4.data.toList.drop 0 = dktJ12_hashCode_4_0 := by decide +kernel
theorem dksJ12_hashCode_4_1 : cJ12_hashCode_4.data.toList.drop 24 = dktJ12_hashCode_4_1 := dk_seg dksJ12_hashCode_4_0 24 rfl rfl
theorem dJ12_hashCode_4_0 : decode cJ12_hashCode_4 0 = .ok (.iload_n 2, 1) := dk_28 (dk_at dksJ12_hashCode_4_0 0 rfl rfl)
theorem dJ12_hashCode_4_1 : decode cJ12_hashCode_4 1 = .ok (.iload_n 3, 1) := dk_29 (dk_at dksJ12_hashCode_4_0 1 rfl rfl)
theorem dJ12_hashCode_4_2 : decode cJ12_hashCode_4 2 = .ok (.iadd, 1) := dk_96 (dk_at dksJ12_hashCode_4_0 2 rfl rfl)
theorem dJ12_hashCode_4_3 : decode cJ12_hashCode_4 3 = .ok (.istore 4, 2) := dk_54 4 (dk_at dksJ12_hashCode_4_0 3 rfl rfl)
theorem dJ12_hashCode_4_5 : decode cJ12_hashCode_4 5 = .ok (.iload_n 2, 1) := dk_28 (dk_at dksJ12_hashCode_4_0 5 rfl rfl)
theorem dJ12_hashCode_4_6 : decode cJ12_hashCode_4 6 = .ok (.istore 5, 2) := dk_54 5 (dk_at dksJ12_hashCode_4_0 6 rfl rfl)
theorem dJ12_hashCode_4_8 : decode cJ12_hashCode_4 8 = .ok (.iload 5, 2) := dk_21 5 (dk_at dksJ12_hashCode_4_0 8 rfl rfl)
theorem dJ12_hashCode_4_10 : decode cJ12_hashCode_4 10 = .ok (.iload 4, 2) := dk_21 4 (dk_at dksJ12_hashCode_4_0 10 rfl rfl)
theorem dJ12_hashCode_4_12 : decode cJ12_hashCode_4 12 = .ok (.if_icmp .ge 19, 3) := dk_162 0 19 (dk_at dksJ12_hashCode_4_0 12 rfl rfl)
theorem dJ12_hashCode_4_15 : decode cJ12_hashCode_4 15 = .ok (.bipush 31, 2) := dk_16 31 (dk_at dksJ12_hashCode_4_0 15 rfl rfl)
theorem dJ12_hashCode_4_17 : decode cJ12_hashCode_4 17 = .ok (.iload_n 0, 1) := dk_26 (dk_at dksJ12_hashCode_4_0 17 rfl rfl)
theorem dJ12_hashCode_4_18 : decode cJ12_hashCode_4 18 = .ok (.imul, 1) := dk_104 (dk_at dksJ12_hashCode_4_0 18 rfl rfl)
theorem dJ12_hashCode_4_19 : decode cJ12_hashCode_4 19 = .ok (.aload_n 1, 1) := dk_43 (dk_at dksJ12_hashCode_4_0 19 rfl rfl)
theorem dJ12_hashCode_4_20 : decode cJ12_hashCode_4 20 = .ok (.iload 5, 2) := dk_21 5 (dk_at dksJ12_hashCode_4_0 20 rfl rfl)
theorem dJ12_hashCode_4_22 : decode cJ12_hashCode_4 22 = .ok (.iaload, 1) := dk_46 (dk_at dksJ12_hashCode_4_0 22 rfl rfl)
theorem dJ12_hashCode_4_23 : decode cJ12_hashCode_4 23 = .ok (.iadd, 1) := dk_96 (dk_at dksJ12_hashCode_4_0 23 rfl rfl)
theorem dJ12_hashCode_4_24 : decode cJ12_hashCode_4 24 = .ok (.istore_n 0, 1) := dk_59 (dk_at dksJ12_hashCode_4_1 0 rfl rfl)
theorem dJ12_hashCode_4_25 : decode cJ12_hashCode_4 25 = .ok (.iinc 5 1, 3) := dk_132 5 1 (dk_at dksJ12_hashCode_4_1 1 rfl rfl)
theorem dJ12_hashCode_4_28 : decode cJ12_hashCode_4 28 = .ok (.goto (-20), 3) := dk_167 255 236 (dk_at dksJ12_hashCode_4_1 4 rfl rfl)
theorem dJ12_hashCode_4_31 : decode cJ12_hashCode_4 31 = .ok (.iload_n 0, 1) := dk_26 (dk_at dksJ12_hashCode_4_1 7 rfl rfl)
theorem dJ12_hashCode_4_32 : decode cJ12_hashCode_4 32 = .ok (.ireturn, 1) := dk_172 (dk_at dksJ12_hashCode_4_1 8 rfl rfl)
abbrev cJ12_newLength : ByteArray := prog_55_method_27_code
def yJ12_newLength : MethodName := ⟨RJ12, "newLength", "(III)I"⟩
def dkwJ12_newLength_1 : List UInt8 := [184, 0, 201, 172]
abbrev dktJ12_newLength_1 : List UInt8 := dkwJ12_newLength_1 ++ []
def dkwJ12_newLength_0 : List UInt8 := [26, 27, 28, 184, 0, 194, 96, 62, 3, 29, 162, 0, 11, 29, 18, 200, 163, 0, 5, 29, 172, 26, 27]
abbrev dktJ12_newLength_0 : List UInt8 := dkwJ12_newLength_0 ++ dktJ12_newLength_1
theorem dksJ12_newLength_0 : cJ12_newLength.data.toList.drop 0 = dktJ12_newLength_0 := by decide +kernel
theorem dksJ12_newLength_1 : cJ12_newLength.data.toList.drop 23 = dktJ12_newLength_1 := dk_seg dksJ12_newLength_0 23 rfl rfl
theorem dJ12_newLength_0 : decode cJ12_newLength 0 = .ok (.iload_n 0, 1) := dk_26 (dk_at dksJ12_newLength_0 0 rfl rfl)
theorem dJ12_newLength_1 : decode cJ12_newLength 1 = .ok (.iload_n 1, 1) := dk_27 (dk_at dksJ12_newLength_0 1 rfl rfl)
theorem dJ12_newLength_2 : decode cJ12_newLength 2 = .ok (.iload_n 2, 1) := dk_28 (dk_at dksJ12_newLength_0 2 rfl rfl)
theorem dJ12_newLength_3 : decode cJ12_newLength 3 = .ok (.invokestatic 194, 3) := dk_184 0 194 (dk_at dksJ12_newLength_0 3 rfl rfl)
theorem dJ12_newLength_6 : decode cJ12_newLength 6 = .ok (.iadd, 1) := dk_96 (dk_at dksJ12_newLength_0 6 rfl rfl)
theorem dJ12_newLength_7 : decode cJ12_newLength 7 = .ok (.istore_n 3, 1) := dk_62 (dk_at dksJ12_newLength_0 7 rfl rfl)
theorem dJ12_newLength_8 : decode cJ12_newLength 8 = .ok (.iconst 0, 1) := dk_3 (dk_at dksJ12_newLength_0 8 rfl rfl)
theorem dJ12_newLength_9 : decode cJ12_newLength 9 = .ok (.iload_n 3, 1) := dk_29 (dk_at dksJ12_newLength_0 9 rfl rfl)
theorem dJ12_newLength_10 : decode cJ12_newLength 10 = .ok (.if_icmp .ge 11, 3) := dk_162 0 11 (dk_at dksJ12_newLength_0 10 rfl rfl)
theorem dJ12_newLength_13 : decode cJ12_newLength 13 = .ok (.iload_n 3, 1) := dk_29 (dk_at dksJ12_newLength_0 13 rfl rfl)
theorem dJ12_newLength_14 : decode cJ12_newLength 14 = .ok (.ldc 200, 2) := dk_18 200 (dk_at dksJ12_newLength_0 14 rfl rfl)
theorem dJ12_newLength_16 : decode cJ12_newLength 16 = .ok (.if_icmp .gt 5, 3) := dk_163 0 5 (dk_at dksJ12_newLength_0 16 rfl rfl)
theorem dJ12_newLength_19 : decode cJ12_newLength 19 = .ok (.iload_n 3, 1) := dk_29 (dk_at dksJ12_newLength_0 19 rfl rfl)
theorem dJ12_newLength_20 : decode cJ12_newLength 20 = .ok (.ireturn, 1) := dk_172 (dk_at dksJ12_newLength_0 20 rfl rfl)
theorem dJ12_newLength_21 : decode cJ12_newLength 21 = .ok (.iload_n 0, 1) := dk_26 (dk_at dksJ12_newLength_0 21 rfl rfl)
theorem dJ12_newLength_22 : decode cJ12_newLength 22 = .ok (.iload_n 1, 1) := dk_27 (dk_at dksJ12_newLength_0 22 rfl rfl)
theorem dJ12_newLength_23 : decode cJ12_newLength 23 = .ok (.invokestatic 201, 3) := dk_184 0 201 (dk_at dksJ12_newLength_1 0 rfl rfl)
theorem dJ12_newLength_26 : decode cJ12_newLength 26 = .ok (.ireturn, 1) := dk_172 (dk_at dksJ12_newLength_1 3 rfl rfl)
abbrev cJ12_hugeLength : ByteArray := prog_55_method_28_code
def yJ12_hugeLength : MethodName := ⟨RJ12, "hugeLength", "(II)I"⟩
def dkwJ12_hugeLength_2 : List UInt8 := [191, 28, 18, 200, 163, 0, 6, 18, 200, 172, 28, 172]
abbrev dktJ12_hugeLength_2 : List UInt8 := dkwJ12_hugeLength_2 ++ []
def dkwJ12_hugeLength_1 : List UInt8 := [26, 182, 0, 98, 18, 208, 182, 0, 94, 27, 182, 0, 98, 18, 210, 182, 0, 94, 182, 0, 101, 183, 0, 212]
abbrev dktJ12_hugeLength_1 : List UInt8 := dkwJ12_hugeLength_1 ++ dktJ12_hugeLength_2
def dkwJ12_hugeLength_0 : List UInt8 := [26, 27, 96, 61, 28, 156, 0, 44, 187, 0, 204, 89, 187, 0, 89, 89, 183, 0, 91, 18, 206, 182, 0, 94]
abbrev dktJ12_hugeLength_0 : List UInt8 := dkwJ12_hugeLength_0 ++ dktJ12_hugeLength_1
theorem dksJ12_hugeLength_0 : cJ12_hugeLength.data.toList.drop 0 = dktJ12_hugeLength_0 := by decide +kernel
theorem dksJ12_hugeLength_1 : cJ12_hugeLength.data.toList.drop 24 = dktJ12_hugeLength_1 := dk_seg dksJ12_hugeLength_0 24 rfl rfl
theorem dksJ12_hugeLength_2 : cJ12_hugeLength.data.toList.drop 48 = dktJ12_hugeLength_2 := dk_seg dksJ12_hugeLength_1 24 rfl rfl
theorem dJ12_hugeLength_0 : decode cJ12_hugeLength 0 = .ok (.iload_n 0, 1) := dk_26 (dk_at dksJ12_hugeLength_0 0 rfl rfl)
theorem dJ12_hugeLength_1 : decode cJ12_hugeLength 1 = .ok (.iload_n 1, 1) := dk_27 (dk_at dksJ12_hugeLength_0 1 rfl rfl)
theorem dJ12_hugeLength_2 : decode cJ12_hugeLength 2 = .ok (.iadd, 1) := dk_96 (dk_at dksJ12_hugeLength_0 2 rfl rfl)
theorem dJ12_hugeLength_3 : decode cJ12_hugeLength 3 = .ok (.istore_n 2, 1) := dk_61 (dk_at dksJ12_hugeLength_0 3 rfl rfl)
theorem dJ12_hugeLength_4 : decode cJ12_hugeLength 4 = .ok (.iload_n 2, 1) := dk_28 (dk_at dksJ12_hugeLength_0 4 rfl rfl)
theorem dJ12_hugeLength_5 : decode cJ12_hugeLength 5 = .ok (.ifCond .ge 44, 3) := dk_156 0 44 (dk_at dksJ12_hugeLength_0 5 rfl rfl)
theorem dJ12_hugeLength_8 : decode cJ12_hugeLength 8 = .ok (.new 204, 3) := dk_187 0 204 (dk_at dksJ12_hugeLength_0 8 rfl rfl)
theorem dJ12_hugeLength_11 : decode cJ12_hugeLength 11 = .ok (.dup, 1) := dk_89 (dk_at dksJ12_hugeLength_0 11 rfl rfl)
theorem dJ12_hugeLength_12 : decode cJ12_hugeLength 12 = .ok (.new 89, 3) := dk_187 0 89 (dk_at dksJ12_hugeLength_0 12 rfl rfl)
theorem dJ12_hugeLength_15 : decode cJ12_hugeLength 15 = .ok (.dup, 1) := dk_89 (dk_at dksJ12_hugeLength_0 15 rfl rfl)
theorem dJ12_hugeLength_16 : decode cJ12_hugeLength 16 = .ok (.invokespecial 91, 3) := dk_183 0 91 (dk_at dksJ12_hugeLength_0 16 rfl rfl)
theorem dJ12_hugeLength_19 : decode cJ12_hugeLength 19 = .ok (.ldc 206, 2) := dk_18 206 (dk_at dksJ12_hugeLength_0 19 rfl rfl)
theorem dJ12_hugeLength_21 : decode cJ12_hugeLength 21 = .ok (.invokevirtual 94, 3) := dk_182 0 94 (dk_at dksJ12_hugeLength_0 21 rfl rfl)
theorem dJ12_hugeLength_24 : decode cJ12_hugeLength 24 = .ok (.iload_n 0, 1) := dk_26 (dk_at dksJ12_hugeLength_1 0 rfl rfl)
theorem dJ12_hugeLength_25 : decode cJ12_hugeLength 25 = .ok (.invokevirtual 98, 3) := dk_182 0 98 (dk_at dksJ12_hugeLength_1 1 rfl rfl)
theorem dJ12_hugeLength_28 : decode cJ12_hugeLength 28 = .ok (.ldc 208, 2) := dk_18 208 (dk_at dksJ12_hugeLength_1 4 rfl rfl)
theorem dJ12_hugeLength_30 : decode cJ12_hugeLength 30 = .ok (.invokevirtual 94, 3) := dk_182 0 94 (dk_at dksJ12_hugeLength_1 6 rfl rfl)
theorem dJ12_hugeLength_33 : decode cJ12_hugeLength 33 = .ok (.iload_n 1, 1) := dk_27 (dk_at dksJ12_hugeLength_1 9 rfl rfl)
theorem dJ12_hugeLength_34 : decode cJ12_hugeLength 34 = .ok (.invokevirtual 98, 3) := dk_182 0 98 (dk_at dksJ12_hugeLength_1 10 rfl rfl)
theorem dJ12_hugeLength_37 : decode cJ12_hugeLength 37 = .ok (.ldc 210, 2) := dk_18 210 (dk_at dksJ12_hugeLength_1 13 rfl rfl)
theorem dJ12_hugeLength_39 : decode cJ12_hugeLength 39 = .ok (.invokevirtual 94, 3) := dk_182 0 94 (dk_at dksJ12_hugeLength_1 15 rfl rfl)
theorem dJ12_hugeLength_42 : decode cJ12_hugeLength 42 = .ok (.invokevirtual 101, 3) := dk_182 0 101 (dk_at dksJ12_hugeLength_1 18 rfl rfl)
theorem dJ12_hugeLength_45 : decode cJ12_hugeLength 45 = .ok (.invokespecial 212, 3) := dk_183 0 212 (dk_at dksJ12_hugeLength_1 21 rfl rfl)
theorem dJ12_hugeLength_48 : decode cJ12_hugeLength 48 = .ok (.athrow, 1) := dk_191 (dk_at dksJ12_hugeLength_2 0 rfl rfl)
theorem dJ12_hugeLength_49 : decode cJ12_hugeLength 49 = .ok (.iload_n 2, 1) := dk_28 (dk_at dksJ12_hugeLength_2 1 rfl rfl)
theorem dJ12_hugeLength_50 : decode cJ12_hugeLength 50 = .ok (.ldc 200, 2) := dk_18 200 (dk_at dksJ12_hugeLength_2 2 rfl rfl)
theorem dJ12_hugeLength_52 : decode cJ12_hugeLength 52 = .ok (.if_icmp .gt 6, 3) := dk_163 0 6 (dk_at dksJ12_hugeLength_2 4 rfl rfl)
theorem dJ12_hugeLength_55 : decode cJ12_hugeLength 55 = .ok (.ldc 200, 2) := dk_18 200 (dk_at dksJ12_hugeLength_2 7 rfl rfl)
theorem dJ12_hugeLength_57 : decode cJ12_hugeLength 57 = .ok (.ireturn, 1) := dk_172 (dk_at dksJ12_hugeLength_2 9 rfl rfl)
theorem dJ12_hugeLength_58 : decode cJ12_hugeLength 58 = .ok (.iload_n 2, 1) := dk_28 (dk_at dksJ12_hugeLength_2 10 rfl rfl)
theorem dJ12_hugeLength_59 : decode cJ12_hugeLength 59 = .ok (.ireturn, 1) := dk_172 (dk_at dksJ12_hugeLength_2 11 rfl rfl)
theorem q186 : (Jvm.Cond.initialized "jdk/internal/util/ArraysSupport") ∈ lw_all := lw_g (lw_at lw_m1 20 rfl) rfl
theorem q743 : (Jvm.Cond.static ({ cls := "jdk/internal/util/ArraysSupport", name := "vectorizedHashCode", desc := "(Ljava/lang/Object;IIII)I" } : Jvm.MethodName)) ∈ lw_all := lw_g (lw_at lw_m3 97 rfl) rfl
theorem q744 : (Jvm.Cond.code ({ cls := "jdk/internal/util/ArraysSupport", name := "vectorizedHashCode", desc := "(Ljava/lang/Object;IIII)I" } : Jvm.MethodName) prog_55_method_4_code (5 : Nat) (Option.some Jvm.ClassFile.FieldType.int)) ∈ lw_all := lw_g (lw_at lw_m3 98 rfl) rfl
theorem q745 : (Jvm.Cond.classLink "jdk/internal/util/ArraysSupport" (60 : Nat) "[B") ∈ lw_all := lw_g (lw_at lw_m3 99 rfl) rfl
theorem q746 : (Jvm.Cond.methodLink "jdk/internal/util/ArraysSupport" (62 : Nat) ({ cls := "jdk/internal/util/ArraysSupport", name := "signedHashCode", desc := "(I[BII)I" } : Jvm.MethodName)) ∈ lw_all := lw_g (lw_at lw_m3 100 rfl) rfl
theorem q747 : (Jvm.Cond.static ({ cls := "jdk/internal/util/ArraysSupport", name := "signedHashCode", desc := "(I[BII)I" } : Jvm.MethodName)) ∈ lw_all := lw_g (lw_at lw_m3 101 rfl) rfl
theorem q748 : (Jvm.Cond.code ({ cls := "jdk/internal/util/ArraysSupport", name := "signedHashCode", desc := "(I[BII)I" } : Jvm.MethodName) prog_55_method_5_code (6 : Nat) (Option.some Jvm.ClassFile.FieldType.int)) ∈ lw_all := lw_g (lw_at lw_m3 102 rfl) rfl
theorem q749 : (Jvm.Cond.methodLink "jdk/internal/util/ArraysSupport" (66 : Nat) ({ cls := "jdk/internal/util/ArraysSupport", name := "utf16hashCode", desc := "(I[BII)I" } : Jvm.MethodName)) ∈ lw_all := lw_g (lw_at lw_m3 103 rfl) rfl
theorem q750 : (Jvm.Cond.static ({ cls := "jdk/internal/util/ArraysSupport", name := "utf16hashCode", desc := "(I[BII)I" } : Jvm.MethodName)) ∈ lw_all := lw_g (lw_at lw_m3 104 rfl) rfl
theorem q751 : (Jvm.Cond.code ({ cls := "jdk/internal/util/ArraysSupport", name := "utf16hashCode", desc := "(I[BII)I" } : Jvm.MethodName) prog_55_method_10_code (6 : Nat) (Option.some Jvm.ClassFile.FieldType.int)) ∈ lw_all := lw_g (lw_at lw_m3 105 rfl) rfl
theorem q752 : (Jvm.Cond.fieldLink "jdk/internal/util/ArraysSupport" (106 : Nat) "jdk/internal/util/ArraysSupport" "JLA" "Ljdk/internal/access/JavaLangAccess;") ∈ lw_all := lw_g (lw_at lw_m3 106 rfl) rfl
theorem q753 : (Jvm.Cond.laysStatic "jdk/internal/util/ArraysSupport" "JLA" "Ljdk/internal/access/JavaLangAccess;") ∈ lw_tbl := lw_at lw_m3 107 rfl
theorem q754 : (Jvm.Cond.interfaceEntry "jdk/internal/util/ArraysSupport" (110 : Nat)) ∈ lw_tbl := lw_at lw_m3 108 rfl
theorem q755 : (Jvm.Cond.methodLink "jdk/internal/util/ArraysSupport" (110 : Nat) ({ cls := "jdk/internal/access/JavaLangAccess", name := "getUTF16Char", desc := "([BI)C" } : Jvm.MethodName)) ∈ lw_all := lw_g (lw_at lw_m3 109 rfl) rfl
theorem q765 : (Jvm.Cond.classLink "jdk/internal/util/ArraysSupport" (69 : Nat) "[C") ∈ lw_all := lw_g (lw_at lw_m3 119 rfl) rfl
theorem q766 : (Jvm.Cond.methodLink "jdk/internal/util/ArraysSupport" (71 : Nat) ({ cls := "jdk/internal/util/ArraysSupport", name := "hashCode", desc := "(I[CII)I" } : Jvm.MethodName)) ∈ lw_all := lw_g (lw_at lw_m3 120 rfl) rfl
theorem q767 : (Jvm.Cond.static ({ cls := "jdk/internal/util/ArraysSupport", name := "hashCode", desc := "(I[CII)I" } : Jvm.MethodName)) ∈ lw_all := lw_g (lw_at lw_m3 121 rfl) rfl
theorem q768 : (Jvm.Cond.code ({ cls := "jdk/internal/util/ArraysSupport", name := "hashCode", desc := "(I[CII)I" } : Jvm.MethodName) prog_55_method_7_code (6 : Nat) (Option.some Jvm.ClassFile.FieldType.int)) ∈ lw_all := lw_g (lw_at lw_m3 122 rfl) rfl
theorem q769 : (Jvm.Cond.methodLink "jdk/internal/util/ArraysSupport" (75 : Nat) ({ cls := "jdk/internal/util/ArraysSupport", name := "hashCode", desc := "(I[BII)I" } : Jvm.MethodName)) ∈ lw_all := lw_g (lw_at lw_m3 123 rfl) rfl
theorem q770 : (Jvm.Cond.static ({ cls := "jdk/internal/util/ArraysSupport", name := "hashCode", desc := "(I[BII)I" } : Jvm.MethodName)) ∈ lw_all := lw_g (lw_at lw_m3 124 rfl) rfl
theorem q771 : (Jvm.Cond.code ({ cls := "jdk/internal/util/ArraysSupport", name := "hashCode", desc := "(I[BII)I" } : Jvm.MethodName) prog_55_method_6_code (6 : Nat) (Option.some Jvm.ClassFile.FieldType.int)) ∈ lw_all := lw_g (lw_at lw_m3 125 rfl) rfl
theorem q772 : (Jvm.Cond.classLink "jdk/internal/util/ArraysSupport" (77 : Nat) "[S") ∈ lw_all := lw_g (lw_at lw_m3 126 rfl) rfl
theorem q773 : (Jvm.Cond.methodLink "jdk/internal/util/ArraysSupport" (79 : Nat) ({ cls := "jdk/internal/util/ArraysSupport", name := "hashCode", desc := "(I[SII)I" } : Jvm.MethodName)) ∈ lw_all := lw_g (lw_at lw_m3 127 rfl) rfl
theorem q774 : (Jvm.Cond.static ({ cls := "jdk/internal/util/ArraysSupport", name := "hashCode", desc := "(I[SII)I" } : Jvm.MethodName)) ∈ lw_all := lw_g (lw_at lw_m3 128 rfl) rfl
theorem q775 : (Jvm.Cond.code ({ cls := "jdk/internal/util/ArraysSupport", name := "hashCode", desc := "(I[SII)I" } : Jvm.MethodName) prog_55_method_8_code (6 : Nat) (Option.some Jvm.ClassFile.FieldType.int)) ∈ lw_all := lw_g (lw_at lw_m3 129 rfl) rfl
theorem q776 : (Jvm.Cond.classLink "jdk/internal/util/ArraysSupport" (82 : Nat) "[I") ∈ lw_all := lw_g (lw_at lw_m3 130 rfl) rfl
theorem q777 : (Jvm.Cond.methodLink "jdk/internal/util/ArraysSupport" (84 : Nat) ({ cls := "jdk/internal/util/ArraysSupport", name := "hashCode", desc := "(I[III)I" } : Jvm.MethodName)) ∈ lw_all := lw_g (lw_at lw_m3 131 rfl) rfl
theorem q778 : (Jvm.Cond.static ({ cls := "jdk/internal/util/ArraysSupport", name := "hashCode", desc := "(I[III)I" } : Jvm.MethodName)) ∈ lw_all := lw_g (lw_at lw_m3 132 rfl) rfl
theorem q779 : (Jvm.Cond.code ({ cls := "jdk/internal/util/ArraysSupport", name := "hashCode", desc := "(I[III)I" } : Jvm.MethodName) prog_55_method_9_code (6 : Nat) (Option.some Jvm.ClassFile.FieldType.int)) ∈ lw_all := lw_g (lw_at lw_m3 133 rfl) rfl
theorem q867 : (Jvm.Cond.static ({ cls := "jdk/internal/util/ArraysSupport", name := "newLength", desc := "(III)I" } : Jvm.MethodName)) ∈ lw_all := lw_g (lw_at lw_m3 221 rfl) rfl
theorem q868 : (Jvm.Cond.code ({ cls := "jdk/internal/util/ArraysSupport", name := "newLength", desc := "(III)I" } : Jvm.MethodName) prog_55_method_27_code (4 : Nat) (Option.some Jvm.ClassFile.FieldType.int)) ∈ lw_all := lw_g (lw_at lw_m3 222 rfl) rfl
theorem q869 : (Jvm.Cond.methodLink "jdk/internal/util/ArraysSupport" (194 : Nat) ({ cls := "java/lang/Math", name := "max", desc := "(II)I" } : Jvm.MethodName)) ∈ lw_all := lw_g (lw_at lw_m3 223 rfl) rfl
theorem q872 : (Jvm.Cond.constant "jdk/internal/util/ArraysSupport" (200 : Nat) (2147483639 : Int32)) ∈ lw_all := lw_g (lw_at lw_m3 226 rfl) rfl
theorem q873 : (Jvm.Cond.methodLink "jdk/internal/util/ArraysSupport" (201 : Nat) ({ cls := "jdk/internal/util/ArraysSupport", name := "hugeLength", desc := "(II)I" } : Jvm.MethodName)) ∈ lw_all := lw_g (lw_at lw_m3 227 rfl) rfl
theorem q874 : (Jvm.Cond.static ({ cls := "jdk/internal/util/ArraysSupport", name := "hugeLength", desc := "(II)I" } : Jvm.MethodName)) ∈ lw_all := lw_g (lw_at lw_m3 228 rfl) rfl
theorem q875 : (Jvm.Cond.code ({ cls := "jdk/internal/util/ArraysSupport", name := "hugeLength", desc := "(II)I" } : Jvm.MethodName) prog_55_method_28_code (3 : Nat) (Option.some Jvm.ClassFile.FieldType.int)) ∈ lw_all := lw_g (lw_at lw_m3 229 rfl) rfl
/-! java/util/Arrays -/
set_option maxRecDepth 100000
def RJ13 : String := "java/util/Arrays"
abbrev cJ13_copyOf : ByteArray := prog_48_method_119_code
def yJ13_copyOf : MethodName := ⟨RJ13, "copyOf", "([Ljava/lang/Object;I)[Ljava/lang/Object;"⟩
def dkwJ13_copyOf_0 : List UInt8 := [42, 27, 42, 182, 0, 86, 184, 1, 44, 176]
abbrev dktJ13_copyOf_0 : List UInt8 := dkwJ13_copyOf_0 ++ []
theorem dksJ13_copyOf_0 : cJ13_copyOf.data.toList.drop 0 = dktJ13_copyOf_0 := by decide +kernel
theorem dJ13_copyOf_0 : decode cJ13_copyOf 0 = .ok (.aload_n 0, 1) := dk_42 (dk_at dksJ13_copyOf_0 0 rfl rfl)
theorem dJ13_copyOf_1 : decode cJ13_copyOf 1 = .ok (.iload_n 1, 1) := dk_27 (dk_at dksJ13_copyOf_0 1 rfl rfl)
theorem dJ13_copyOf_2 : decode cJ13_copyOf 2 = .ok (.aload_n 0, 1) := dk_42 (dk_at dksJ13_copyOf_0 2 rfl rfl)
theorem dJ13_copyOf_3 : decode cJ13_copyOf 3 = .ok (.invokevirtual 86, 3) := dk_182 0 86 (dk_at dksJ13_copyOf_0 3 rfl rfl)
theorem dJ13_copyOf_6 : decode cJ13_copyOf 6 = .ok (.invokestatic 300, 3) := dk_184 1 44 (dk_at dksJ13_copyOf_0 6 rfl rfl)
theorem dJ13_copyOf_9 : decode cJ13_copyOf 9 = .ok (.areturn, 1) := dk_176 (dk_at dksJ13_copyOf_0 9 rfl rfl)
abbrev cJ13_copyOf_2 : ByteArray := prog_48_method_120_code
def yJ13_copyOf_2 : MethodName := ⟨RJ13, "copyOf", "([Ljava/lang/Object;ILjava/lang/Class;)[Ljava/lang/Object;"⟩
def dkwJ13_copyOf_2_1 : List UInt8 := [78, 42, 3, 45, 3, 42, 190, 27, 184, 1, 48, 184, 0, 150, 45, 176]
abbrev dktJ13_copyOf_2_1 : List UInt8 := dkwJ13_copyOf_2_1 ++ []
def dkwJ13_copyOf_2_0 : List UInt8 := [44, 18, 110, 166, 0, 10, 27, 189, 0, 2, 167, 0, 14, 44, 182, 0, 90, 27, 184, 0, 95, 192, 0, 110]
abbrev dktJ13_copyOf_2_0 : List UInt8 := dkwJ13_copyOf_2_0 ++ dktJ13_copyOf_2_1
theorem dksJ13_copyOf_2_0 : cJ13_copyOf_2.data.toList.drop 0 = dktJ13_copyOf_2_0 := by decide +kernel
theorem dksJ13_copyOf_2_1 : cJ13_copyOf_2.data.toList.drop 24 = dktJ13_copyOf_2_1 := dk_seg dksJ13_copyOf_2_0 24 rfl rfl
theorem dJ13_copyOf_2_0 : decode cJ13_copyOf_2 0 = .ok (.aload_n 2, 1) := dk_44 (dk_at dksJ13_copyOf_2_0 0 rfl rfl)
theorem dJ13_copyOf_2_1 : decode cJ13_copyOf_2 1 = .ok (.ldc 110, 2) := dk_18 110 (dk_at dksJ13_copyOf_2_0 1 rfl rfl)
theorem dJ13_copyOf_2_3 : decode cJ13_copyOf_2 3 = .ok (.if_acmp .ne 10, 3) := dk_166 0 10 (dk_at dksJ13_copyOf_2_0 3 rfl rfl)
theorem dJ13_copyOf_2_6 : decode cJ13_copyOf_2 6 = .ok (.iload_n 1, 1) := dk_27 (dk_at dksJ13_copyOf_2_0 6 rfl rfl)
theorem dJ13_copyOf_2_7 : decode cJ13_copyOf_2 7 = .ok (.anewarray 2, 3) := dk_189 0 2 (dk_at dksJ13_copyOf_2_0 7 rfl rfl)
theorem dJ13_copyOf_2_10 : decode cJ13_copyOf_2 10 = .ok (.goto 14, 3) := dk_167 0 14 (dk_at dksJ13_copyOf_2_0 10 rfl rfl)
theorem dJ13_copyOf_2_13 : decode cJ13_copyOf_2 13 = .ok (.aload_n 2, 1) := dk_44 (dk_at dksJ13_copyOf_2_0 13 rfl rfl)
theorem dJ13_copyOf_2_14 : decode cJ13_copyOf_2 14 = .ok (.invokevirtual 90, 3) := dk_182 0 90 (dk_at dksJ13_copyOf_2_0 14 rfl rfl)
theorem dJ13_copyOf_2_17 : decode cJ13_copyOf_2 17 = .ok (.iload_n 1, 1) := dk_27 (dk_at dksJ13_copyOf_2_0 17 rfl rfl)
theorem dJ13_copyOf_2_18 : decode cJ13_copyOf_2 18 = .ok (.invokestatic 95, 3) := dk_184 0 95 (dk_at dksJ13_copyOf_2_0 18 rfl rfl)
theorem dJ13_copyOf_2_21 : decode cJ13_copyOf_2 21 = .ok (.checkcast 110, 3) := dk_192 0 110 (dk_at dksJ13_copyOf_2_0 21 rfl rfl)
theorem dJ13_copyOf_2_24 : decode cJ13_copyOf_2 24 = .ok (.astore_n 3, 1) := dk_78 (dk_at dksJ13_copyOf_2_1 0 rfl rfl)
theorem dJ13_copyOf_2_25 : decode cJ13_copyOf_2 25 = .ok (.aload_n 0, 1) := dk_42 (dk_at dksJ13_copyOf_2_1 1 rfl rfl)
theorem dJ13_copyOf_2_26 : decode cJ13_copyOf_2 26 = .ok (.iconst 0, 1) := dk_3 (dk_at dksJ13_copyOf_2_1 2 rfl rfl)
theorem dJ13_copyOf_2_27 : decode cJ13_copyOf_2 27 = .ok (.aload_n 3, 1) := dk_45 (dk_at dksJ13_copyOf_2_1 3 rfl rfl)
theorem dJ13_copyOf_2_28 : decode cJ13_copyOf_2 28 = .ok (.iconst 0, 1) := dk_3 (dk_at dksJ13_copyOf_2_1 4 rfl rfl)
theorem dJ13_copyOf_2_29 : decode cJ13_copyOf_2 29 = .ok (.aload_n 0, 1) := dk_42 (dk_at dksJ13_copyOf_2_1 5 rfl rfl)
theorem dJ13_copyOf_2_30 : decode cJ13_copyOf_2 30 = .ok (.arraylength, 1) := dk_190 (dk_at dksJ13_copyOf_2_1 6 rfl rfl)
theorem dJ13_copyOf_2_31 : decode cJ13_copyOf_2 31 = .ok (.iload_n 1, 1) := dk_27 (dk_at dksJ13_copyOf_2_1 7 rfl rfl)
theorem dJ13_copyOf_2_32 : decode cJ13_copyOf_2 32 = .ok (.invokestatic 304, 3) := dk_184 1 48 (dk_at dksJ13_copyOf_2_1 8 rfl rfl)
theorem dJ13_copyOf_2_35 : decode cJ13_copyOf_2 35 = .ok (.invokestatic 150, 3) := dk_184 0 150 (dk_at dksJ13_copyOf_2_1 11 rfl rfl)
theorem dJ13_copyOf_2_38 : decode cJ13_copyOf_2 38 = .ok (.aload_n 3, 1) := dk_45 (dk_at dksJ13_copyOf_2_1 14 rfl rfl)
theorem dJ13_copyOf_2_39 : decode cJ13_copyOf_2 39 = .ok (.areturn, 1) := dk_176 (dk_at dksJ13_copyOf_2_1 15 rfl rfl)
abbrev cJ13_copyOf_3 : ByteArray := prog_48_method_121_code
def yJ13_copyOf_3 : MethodName := ⟨RJ13, "copyOf", "([BI)[B"⟩
def dkwJ13_copyOf_3_1 : List UInt8 := [27, 184, 1, 48, 184, 0, 150, 44, 176]
abbrev dktJ13_copyOf_3_1 : List UInt8 := dkwJ13_copyOf_3_1 ++ []
def dkwJ13_copyOf_3_0 : List UInt8 := [27, 42, 190, 160, 0, 11, 42, 182, 1, 54, 192, 1, 55, 176, 27, 188, 8, 77, 42, 3, 44, 3, 42, 190]
abbrev dktJ13_copyOf_3_0 : List UInt8 := dkwJ13_copyOf_3_0 ++ dktJ13_copyOf_3_1
theorem dksJ13_copyOf_3_0 : cJ13_copyOf_3.data.toList.drop 0 = dktJ13_copyOf_3_0 := by decide +kernel
theorem dksJ13_copyOf_3_1 : cJ13_copyOf_3.data.toList.drop 24 = dktJ13_copyOf_3_1 := dk_seg dksJ13_copyOf_3_0 24 rfl rfl
theorem dJ13_copyOf_3_0 : decode cJ13_copyOf_3 0 = .ok (.iload_n 1, 1) := dk_27 (dk_at dksJ13_copyOf_3_0 0 rfl rfl)
theorem dJ13_copyOf_3_1 : decode cJ13_copyOf_3 1 = .ok (.aload_n 0, 1) := dk_42 (dk_at dksJ13_copyOf_3_0 1 rfl rfl)
theorem dJ13_copyOf_3_2 : decode cJ13_copyOf_3 2 = .ok (.arraylength, 1) := dk_190 (dk_at dksJ13_copyOf_3_0 2 rfl rfl)
theorem dJ13_copyOf_3_3 : decode cJ13_copyOf_3 3 = .ok (.if_icmp .ne 11, 3) := dk_160 0 11 (dk_at dksJ13_copyOf_3_0 3 rfl rfl)
theorem dJ13_copyOf_3_6 : decode cJ13_copyOf_3 6 = .ok (.aload_n 0, 1) := dk_42 (dk_at dksJ13_copyOf_3_0 6 rfl rfl)
theorem dJ13_copyOf_3_7 : decode cJ13_copyOf_3 7 = .ok (.invokevirtual 310, 3) := dk_182 1 54 (dk_at dksJ13_copyOf_3_0 7 rfl rfl)
theorem dJ13_copyOf_3_10 : decode cJ13_copyOf_3 10 = .ok (.checkcast 311, 3) := dk_192 1 55 (dk_at dksJ13_copyOf_3_0 10 rfl rfl)
theorem dJ13_copyOf_3_13 : decode cJ13_copyOf_3 13 = .ok (.areturn, 1) := dk_176 (dk_at dksJ13_copyOf_3_0 13 rfl rfl)
theorem dJ13_copyOf_3_14 : decode cJ13_copyOf_3 14 = .ok (.iload_n 1, 1) := dk_27 (dk_at dksJ13_copyOf_3_0 14 rfl rfl)
theorem dJ13_copyOf_3_15 : decode cJ13_copyOf_3 15 = .ok (.newarray .byte, 2) := dk_188_8 (dk_at dksJ13_copyOf_3_0 15 rfl rfl)
theorem dJ13_copyOf_3_17 : decode cJ13_copyOf_3 17 = .ok (.astore_n 2, 1) := dk_77 (dk_at dksJ13_copyOf_3_0 17 rfl rfl)
theorem dJ13_copyOf_3_18 : decode cJ13_copyOf_3 18 = .ok (.aload_n 0, 1) := dk_42 (dk_at dksJ13_copyOf_3_0 18 rfl rfl)
theorem dJ13_copyOf_3_19 : decode cJ13_copyOf_3 19 = .ok (.iconst 0, 1) := dk_3 (dk_at dksJ13_copyOf_3_0 19 rfl rfl)
theorem dJ13_copyOf_3_20 : decode cJ13_copyOf_3 20 = .ok (.aload_n 2, 1) := dk_44 (dk_at dksJ13_copyOf_3_0 20 rfl rfl)
theorem dJ13_copyOf_3_21 : decode cJ13_copyOf_3 21 = .ok (.iconst 0, 1) := dk_3 (dk_at dksJ13_copyOf_3_0 21 rfl rfl)
theorem dJ13_copyOf_3_22 : decode cJ13_copyOf_3 22 = .ok (.aload_n 0, 1) := dk_42 (dk_at dksJ13_copyOf_3_0 22 rfl rfl)
theorem dJ13_copyOf_3_23 : decode cJ13_copyOf_3 23 = .ok (.arraylength, 1) := dk_190 (dk_at dksJ13_copyOf_3_0 23 rfl rfl)
theorem dJ13_copyOf_3_24 : decode cJ13_copyOf_3 24 = .ok (.iload_n 1, 1) := dk_27 (dk_at dksJ13_copyOf_3_1 0 rfl rfl)
theorem dJ13_copyOf_3_25 : decode cJ13_copyOf_3 25 = .ok (.invokestatic 304, 3) := dk_184 1 48 (dk_at dksJ13_copyOf_3_1 1 rfl rfl)
theorem dJ13_copyOf_3_28 : decode cJ13_copyOf_3 28 = .ok (.invokestatic 150, 3) := dk_184 0 150 (dk_at dksJ13_copyOf_3_1 4 rfl rfl)
theorem dJ13_copyOf_3_31 : decode cJ13_copyOf_3 31 = .ok (.aload_n 2, 1) := dk_44 (dk_at dksJ13_copyOf_3_1 7 rfl rfl)
theorem dJ13_copyOf_3_32 : decode cJ13_copyOf_3 32 = .ok (.areturn, 1) := dk_176 (dk_at dksJ13_copyOf_3_1 8 rfl rfl)
theorem q188 : (Jvm.Cond.initialized "java/util/Arrays") ∈ lw_all := lw_g (lw_at lw_m1 22 rfl) rfl
theorem q877 : (Jvm.Cond.static ({ cls := "java/util/Arrays", name := "copyOf", desc := "([Ljava/lang/Object;I)[Ljava/lang/Object;" } : Jvm.MethodName)) ∈ lw_all := lw_g (lw_at lw_m3 231 rfl) rfl
theorem q878 : (Jvm.Cond.code ({ cls := "java/util/Arrays", name := "copyOf", desc := "([Ljava/lang/Object;I)[Ljava/lang/Object;" } : Jvm.MethodName) prog_48_method_119_code (2 : Nat) (Option.some (Jvm.ClassFile.FieldType.array (Jvm.ClassFile.FieldType.object "java/lang/Object")))) ∈ lw_all := lw_g (lw_at lw_m3 232 rfl) rfl
theorem q879 : (Jvm.Cond.methodLink "java/util/Arrays" (86 : Nat) ({ cls := "java/lang/Object", name := "getClass", desc := "()Ljava/lang/Class;" } : Jvm.MethodName)) ∈ lw_all := lw_g (lw_at lw_m3 233 rfl) rfl
theorem q908 : (Jvm.Cond.methodLink "java/util/Arrays" (300 : Nat) ({ cls := "java/util/Arrays", name := "copyOf", desc := "([Ljava/lang/Object;ILjava/lang/Class;)[Ljava/lang/Object;" } : Jvm.MethodName)) ∈ lw_all := lw_g (lw_at lw_m4 22 rfl) rfl
theorem q909 : (Jvm.Cond.static ({ cls := "java/util/Arrays", name := "copyOf", desc := "([Ljava/lang/Object;ILjava/lang/Class;)[Ljava/lang/Object;" } : Jvm.MethodName)) ∈ lw_all := lw_g (lw_at lw_m4 23 rfl) rfl
theorem q910 : (Jvm.Cond.code ({ cls := "java/util/Arrays", name := "copyOf", desc := "([Ljava/lang/Object;ILjava/lang/Class;)[Ljava/lang/Object;" } : Jvm.MethodName) prog_48_method_120_code (4 : Nat) (Option.some (Jvm.ClassFile.FieldType.array (Jvm.ClassFile.FieldType.object "java/lang/Object")))) ∈ lw_all := lw_g (lw_at lw_m4 24 rfl) rfl
theorem q911 : (Jvm.Cond.classLink "java/util/Arrays" (110 : Nat) "[Ljava/lang/Object;") ∈ lw_all := lw_g (lw_at lw_m4 25 rfl) rfl
theorem q912 : (Jvm.Cond.classLink "java/util/Arrays" (2 : Nat) "java/lang/Object") ∈ lw_all := lw_g (lw_at lw_m4 26 rfl) rfl
theorem q913 : (Jvm.Cond.methodLink "java/util/Arrays" (304 : Nat) ({ cls := "java/lang/Math", name := "min", desc := "(II)I" } : Jvm.MethodName)) ∈ lw_all := lw_g (lw_at lw_m4 27 rfl) rfl
theorem q914 : (Jvm.Cond.methodLink "java/util/Arrays" (150 : Nat) ({ cls := "java/lang/System", name := "arraycopy", desc := "(Ljava/lang/Object;ILjava/lang/Object;II)V" } : Jvm.MethodName)) ∈ lw_all := lw_g (lw_at lw_m4 28 rfl) rfl
theorem q1182 : (Jvm.Cond.static ({ cls := "java/util/Arrays", name := "copyOf", desc := "([BI)[B" } : Jvm.MethodName)) ∈ lw_all := lw_g (lw_at lw_m5 56 rfl) rfl
theorem q1183 : (Jvm.Cond.code ({ cls := "java/util/Arrays", name := "copyOf", desc := "([BI)[B" } : Jvm.MethodName) prog_48_method_121_code (3 : Nat) (Option.some (Jvm.ClassFile.FieldType.array Jvm.ClassFile.FieldType.byte))) ∈ lw_all := lw_g (lw_at lw_m5 57 rfl) rfl
theorem q1184 : (Jvm.Cond.methodLink "java/util/Arrays" (310 : Nat) ({ cls := "[B", name := "clone", desc := "()Ljava/lang/Object;" } : Jvm.MethodName)) ∈ lw_all := lw_g (lw_at lw_m5 58 rfl) rfl
theorem q1190 : (Jvm.Cond.classLink "java/util/Arrays" (311 : Nat) "[B") ∈ lw_all := lw_g (lw_at lw_m5 64 rfl) rfl
/-! java/lang/AbstractStringBuilder -/
set_option maxRecDepth 100000
def RJ14 : String := "java/lang/AbstractStringBuilder"
abbrev cJ14_init : ByteArray := prog_26_method_2_code
def yJ14_init : MethodName := ⟨RJ14, "<init>", "(I)V"⟩
def dkwJ14_init_1 : List UInt8 := [167, 0, 16, 42, 27, 184, 0, 26, 181, 0, 15, 42, 4, 181, 0, 22, 177]
abbrev dktJ14_init_1 : List UInt8 := dkwJ14_init_1 ++ []
def dkwJ14_init_0 : List UInt8 := [42, 183, 0, 3, 178, 0, 18, 153, 0, 18, 42, 27, 188, 8, 181, 0, 15, 42, 3, 181, 0, 22]
abbrev dktJ14_init_0 : List UInt8 := dkwJ14_init_0 ++ dktJ14_init_1
theorem dksJ14_init_0 : cJ14_init.data.toList.drop 0 = dktJ14_init_0 := by decide +kernel
theorem dksJ14_init_1 : cJ14_init.data.toList.drop 22 = dktJ14_init_1 := dk_seg dksJ14_init_0 22 rfl rfl
theorem dJ14_init_0 : decode cJ14_init 0 = .ok (.aload_n 0, 1) := dk_42 (dk_at dksJ14_init_0 0 rfl rfl)
theorem dJ14_init_1 : decode cJ14_init 1 = .ok (.invokespecial 3, 3) := dk_183 0 3 (dk_at dksJ14_init_0 1 rfl rfl)
theorem dJ14_init_4 : decode cJ14_init 4 = .ok (.getstatic 18, 3) := dk_178 0 18 (dk_at dksJ14_init_0 4 rfl rfl)
theorem dJ14_init_7 : decode cJ14_init 7 = .ok (.ifCond .eq 18, 3) := dk_153 0 18 (dk_at dksJ14_init_0 7 rfl rfl)
theorem dJ14_init_10 : decode cJ14_init 10 = .ok (.aload_n 0, 1) := dk_42 (dk_at dksJ14_init_0 10 rfl rfl)
theorem dJ14_init_11 : decode cJ14_init 11 = .ok (.iload_n 1, 1) := dk_27 (dk_at dksJ14_init_0 11 rfl rfl)
theorem dJ14_init_12 : decode cJ14_init 12 = .ok (.newarray .byte, 2) := dk_188_8 (dk_at dksJ14_init_0 12 rfl rfl)
theorem dJ14_init_14 : decode cJ14_init 14 = .ok (.putfield 15, 3) := dk_181 0 15 (dk_at dksJ14_init_0 14 rfl rfl)
theorem dJ14_init_17 : decode cJ14_init 17 = .ok (.aload_n 0, 1) := dk_42 (dk_at dksJ14_init_0 17 rfl rfl)
theorem dJ14_init_18 : decode cJ14_init 18 = .ok (.iconst 0, 1) := dk_3 (dk_at dksJ14_init_0 18 rfl rfl)
theorem dJ14_init_19 : decode cJ14_init 19 = .ok (.putfield 22, 3) := dk_181 0 22 (dk_at dksJ14_init_0 19 rfl rfl)
theorem dJ14_init_22 : decode cJ14_init 22 = .ok (.goto 16, 3) := dk_167 0 16 (dk_at dksJ14_init_1 0 rfl rfl)
theorem dJ14_init_25 : decode cJ14_init 25 = .ok (.aload_n 0, 1) := dk_42 (dk_at dksJ14_init_1 3 rfl rfl)
theorem dJ14_init_26 : decode cJ14_init 26 = .ok (.iload_n 1, 1) := dk_27 (dk_at dksJ14_init_1 4 rfl rfl)
theorem dJ14_init_27 : decode cJ14_init 27 = .ok (.invokestatic 26, 3) := dk_184 0 26 (dk_at dksJ14_init_1 5 rfl rfl)
theorem dJ14_init_30 : decode cJ14_init 30 = .ok (.putfield 15, 3) := dk_181 0 15 (dk_at dksJ14_init_1 8 rfl rfl)
theorem dJ14_init_33 : decode cJ14_init 33 = .ok (.aload_n 0, 1) := dk_42 (dk_at dksJ14_init_1 11 rfl rfl)
theorem dJ14_init_34 : decode cJ14_init 34 = .ok (.iconst 1, 1) := dk_4 (dk_at dksJ14_init_1 12 rfl rfl)
theorem dJ14_init_35 : decode cJ14_init 35 = .ok (.putfield 22, 3) := dk_181 0 22 (dk_at dksJ14_init_1 13 rfl rfl)
theorem dJ14_init_38 : decode cJ14_init 38 = .ok (.return_, 1) := dk_177 (dk_at dksJ14_init_1 16 rfl rfl)
abbrev cJ14_append : ByteArray := prog_26_method_31_code
def yJ14_append : MethodName := ⟨RJ14, "append", "(C)Ljava/lang/AbstractStringBuilder;"⟩
def dkwJ14_append_3 : List UInt8 := [181, 0, 79, 27, 184, 0, 197, 42, 176]
abbrev dktJ14_append_3 : List UInt8 := dkwJ14_append_3 ++ []
def dkwJ14_append_2 : List UInt8 := [182, 0, 83, 153, 0, 7, 42, 182, 0, 195, 42, 180, 0, 15, 42, 89, 180, 0, 79, 90, 4, 96]
abbrev dktJ14_append_2 : List UInt8 := dkwJ14_append_2 ++ dktJ14_append_3
def dkwJ14_append_1 : List UInt8 := [42, 180, 0, 15, 42, 89, 180, 0, 79, 90, 4, 96, 181, 0, 79, 27, 145, 84, 167, 0, 33, 42]
abbrev dktJ14_append_1 : List UInt8 := dkwJ14_append_1 ++ dktJ14_append_2
def dkwJ14_append_0 : List UInt8 := [42, 42, 180, 0, 79, 4, 96, 182, 0, 100, 42, 182, 0, 83, 153, 0, 31, 27, 184, 0, 191, 153, 0, 24]
abbrev dktJ14_append_0 : List UInt8 := dkwJ14_append_0 ++ dktJ14_append_1
theorem dksJ14_append_0 : cJ14_append.data.toList.drop 0 = dktJ14_append_0 := by decide +kernel
theorem dksJ14_append_1 : cJ14_append.data.toList.drop 24 = dktJ14_append_1 := dk_seg dksJ14_append_0 24 rfl rfl
theorem dksJ14_append_2 : cJ14_append.data.toList.drop 46 = dktJ14_append_2 := dk_seg dksJ14_append_1 22 rfl rfl
theorem dksJ14_append_3 : cJ14_append.data.toList.drop 68 = dktJ14_append_3 := dk_seg dksJ14_append_2 22 rfl rfl
theorem dJ14_append_0 : decode cJ14_append 0 = .ok (.aload_n 0, 1) := dk_42 (dk_at dksJ14_append_0 0 rfl rfl)
theorem dJ14_append_1 : decode cJ14_append 1 = .ok (.aload_n 0, 1) := dk_42 (dk_at dksJ14_append_0 1 rfl rfl)
theorem dJ14_append_2 : decode cJ14_append 2 = .ok (.getfield 79, 3) := dk_180 0 79 (dk_at dksJ14_append_0 2 rfl rfl)
theorem dJ14_append_5 : decode cJ14_append 5 = .ok (.iconst 1, 1) := dk_4 (dk_at dksJ14_append_0 5 rfl rfl)
theorem dJ14_append_6 : decode cJ14_append 6 = .ok (.iadd, 1) := dk_96 (dk_at dksJ14_append_0 6 rfl rfl)
theorem dJ14_append_7 : decode cJ14_append 7 = .ok (.invokevirtual 100, 3) := dk_182 0 100 (dk_at dksJ14_append_0 7 rfl rfl)
theorem dJ14_append_10 : decode cJ14_append 10 = .ok (.aload_n 0, 1) := dk_42 (dk_at dksJ14_append_0 10 rfl rfl)
theorem dJ14_append_11 : decode cJ14_append 11 = .ok (.invokevirtual 83, 3) := dk_182 0 83 (dk_at dksJ14_append_0 11 rfl rfl)
theorem dJ14_append_14 : decode cJ14_append 14 = .ok (.ifCond .eq 31, 3) := dk_153 0 31 (dk_at dksJ14_append_0 14 rfl rfl)
theorem dJ14_append_17 : decode cJ14_append 17 = .ok (.iload_n 1, 1) := dk_27 (dk_at dksJ14_append_0 17 rfl rfl)
theorem dJ14_append_18 : decode cJ14_append 18 = .ok (.invokestatic 191, 3) := dk_184 0 191 (dk_at dksJ14_append_0 18 rfl rfl)
theorem dJ14_append_21 : decode cJ14_append 21 = .ok (.ifCond .eq 24, 3) := dk_153 0 24 (dk_at dksJ14_append_0 21 rfl rfl)
theorem dJ14_append_24 : decode cJ14_append 24 = .ok (.aload_n 0, 1) := dk_42 (dk_at dksJ14_append_1 0 rfl rfl)
theorem dJ14_append_25 : decode cJ14_append 25 = .ok (.getfield 15, 3) := dk_180 0 15 (dk_at dksJ14_append_1 1 rfl rfl)
theorem dJ14_append_28 : decode cJ14_append 28 = .ok (.aload_n 0, 1) := dk_42 (dk_at dksJ14_append_1 4 rfl rfl)
theorem dJ14_append_29 : decode cJ14_append 29 = .ok (.dup, 1) := dk_89 (dk_at dksJ14_append_1 5 rfl rfl)
theorem dJ14_append_30 : decode cJ14_append 30 = .ok (.getfield 79, 3) := dk_180 0 79 (dk_at dksJ14_append_1 6 rfl rfl)
theorem dJ14_append_33 : decode cJ14_append 33 = .ok (.dup_x1, 1) := dk_90 (dk_at dksJ14_append_1 9 rfl rfl)
theorem dJ14_append_34 : decode cJ14_append 34 = .ok (.iconst 1, 1) := dk_4 (dk_at dksJ14_append_1 10 rfl rfl)
theorem dJ14_append_35 : decode cJ14_append 35 = .ok (.iadd, 1) := dk_96 (dk_at dksJ14_append_1 11 rfl rfl)
theorem dJ14_append_36 : decode cJ14_append 36 = .ok (.putfield 79, 3) := dk_181 0 79 (dk_at dksJ14_append_1 12 rfl rfl)
theorem dJ14_append_39 : decode cJ14_append 39 = .ok (.iload_n 1, 1) := dk_27 (dk_at dksJ14_append_1 15 rfl rfl)
theorem dJ14_append_40 : decode cJ14_append 40 = .ok (.i2b, 1) := dk_145 (dk_at dksJ14_append_1 16 rfl rfl)
theorem dJ14_append_41 : decode cJ14_append 41 = .ok (.bastore, 1) := dk_84 (dk_at dksJ14_append_1 17 rfl rfl)
theorem dJ14_append_42 : decode cJ14_append 42 = .ok (.goto 33, 3) := dk_167 0 33 (dk_at dksJ14_append_1 18 rfl rfl)
theorem dJ14_append_45 : decode cJ14_append 45 = .ok (.aload_n 0, 1) := dk_42 (dk_at dksJ14_append_1 21 rfl rfl)
theorem dJ14_append_46 : decode cJ14_append 46 = .ok (.invokevirtual 83, 3) := dk_182 0 83 (dk_at dksJ14_append_2 0 rfl rfl)
theorem dJ14_append_49 : decode cJ14_append 49 = .ok (.ifCond .eq 7, 3) := dk_153 0 7 (dk_at dksJ14_append_2 3 rfl rfl)
theorem dJ14_append_52 : decode cJ14_append 52 = .ok (.aload_n 0, 1) := dk_42 (dk_at dksJ14_append_2 6 rfl rfl)
theorem dJ14_append_53 : decode cJ14_append 53 = .ok (.invokevirtual 195, 3) := dk_182 0 195 (dk_at dksJ14_append_2 7 rfl rfl)
theorem dJ14_append_56 : decode cJ14_append 56 = .ok (.aload_n 0, 1) := dk_42 (dk_at dksJ14_append_2 10 rfl rfl)
theorem dJ14_append_57 : decode cJ14_append 57 = .ok (.getfield 15, 3) := dk_180 0 15 (dk_at dksJ14_append_2 11 rfl rfl)
theorem dJ14_append_60 : decode cJ14_append 60 = .ok (.aload_n 0, 1) := dk_42 (dk_at dksJ14_append_2 14 rfl rfl)
theorem dJ14_append_61 : decode cJ14_append 61 = .ok (.dup, 1) := dk_89 (dk_at dksJ14_append_2 15 rfl rfl)
theorem dJ14_append_62 : decode cJ14_append 62 = .ok (.getfield 79, 3) := dk_180 0 79 (dk_at dksJ14_append_2 16 rfl rfl)
theorem dJ14_append_65 : decode cJ14_append 65 = .ok (.dup_x1, 1) := dk_90 (dk_at dksJ14_append_2 19 rfl rfl)
theorem dJ14_append_66 : decode cJ14_append 66 = .ok (.iconst 1, 1) := dk_4 (dk_at dksJ14_append_2 20 rfl rfl)
theorem dJ14_append_67 : decode cJ14_append 67 = .ok (.iadd, 1) := dk_96 (dk_at dksJ14_append_2 21 rfl rfl)
theorem dJ14_append_68 : decode cJ14_append 68 = .ok (.putfield 79, 3) := dk_181 0 79 (dk_at dksJ14_append_3 0 rfl rfl)
theorem dJ14_append_71 : decode cJ14_append 71 = .ok (.iload_n 1, 1) := dk_27 (dk_at dksJ14_append_3 3 rfl rfl)
theorem dJ14_append_72 : decode cJ14_append 72 = .ok (.invokestatic 197, 3) := dk_184 0 197 (dk_at dksJ14_append_3 4 rfl rfl)
theorem dJ14_append_75 : decode cJ14_append 75 = .ok (.aload_n 0, 1) := dk_42 (dk_at dksJ14_append_3 7 rfl rfl)
theorem dJ14_append_76 : decode cJ14_append 76 = .ok (.areturn, 1) := dk_176 (dk_at dksJ14_append_3 8 rfl rfl)
abbrev cJ14_ensureCapacityInternal : ByteArray := prog_26_method_9_code
def yJ14_ensureCapacityInternal : MethodName := ⟨RJ14, "ensureCapacityInternal", "(I)V"⟩
def dkwJ14_ensureCapacityInternal_1 : List UInt8 := [182, 0, 104, 42, 180, 0, 22, 120, 184, 0, 108, 181, 0, 15, 177]
abbrev dktJ14_ensureCapacityInternal_1 : List UInt8 := dkwJ14_ensureCapacityInternal_1 ++ []
def dkwJ14_ensureCapacityInternal_0 : List UInt8 := [42, 180, 0, 15, 190, 42, 180, 0, 22, 122, 61, 27, 28, 100, 158, 0, 24, 42, 42, 180, 0, 15, 42, 27]
abbrev dktJ14_ensureCapacityInternal_0 : List UInt8 := dkwJ14_ensureCapacityInternal_0 ++ dktJ14_ensureCapacityInternal_1
theorem dksJ14_ensureCapacityInternal_0 : cJ14_ensureCapacityInternal.data.toList.drop 0 = dktJ14_ensureCapacityInternal_0 := by decide +kernel
theorem dksJ14_ensureCapacityInternal_1 : cJ14_ensureCapacityInternal.data.toList.drop 24 = dktJ14_ensureCapacityInternal_1 := dk_seg dksJ14_ensureCapacityInternal_0 24 rfl rfl
theorem dJ14_ensureCapacityInternal_0 : decode cJ14_ensureCapacityInternal 0 = .ok (.aload_n 0, 1) := dk_42 (dk_at dksJ14_ensureCapacityInternal_0 0 rfl rfl)
theorem dJ14_ensureCapacityInternal_1 : decode cJ14_ensureCapacityInternal 1 = .ok (.getfield 15, 3) := dk_180 0 15 (dk_at dksJ14_ensureCapacityInternal_0 1 rfl rfl)
theorem dJ14_ensureCapacityInternal_4 : decode cJ14_ensureCapacityInternal 4 = .ok (.arraylength, 1) := dk_190 (dk_at dksJ14_ensureCapacityInternal_0 4 rfl rfl)
theorem dJ14_ensureCapacityInternal_5 : decode cJ14_ensureCapacityInternal 5 = .ok (.aload_n 0, 1) := dk_42 (dk_at dksJ14_ensureCapacityInternal_0 5 rfl rfl)
theorem dJ14_ensureCapacityInternal_6 : decode cJ14_ensureCapacityInternal 6 = .ok (.getfield 22, 3) := dk_180 0 22 (dk_at dksJ14_ensureCapacityInternal_0 6 rfl rfl)
theorem dJ14_ensureCapacityInternal_9 : decode cJ14_ensureCapacityInternal 9 = .ok (.ishr, 1) := dk_122 (dk_at dksJ14_ensureCapacityInternal_0 9 rfl rfl)
theorem dJ14_ensureCapacityInternal_10 : decode cJ14_ensureCapacityInternal 10 = .ok (.istore_n 2, 1) := dk_61 (dk_at dksJ14_ensureCapacityInternal_0 10 rfl rfl)
theorem dJ14_ensureCapacityInternal_11 : decode cJ14_ensureCapacityInternal 11 = .ok (.iload_n 1, 1) := dk_27 (dk_at dksJ14_ensureCapacityInternal_0 11 rfl rfl)
theorem dJ14_ensureCapacityInternal_12 : decode cJ14_ensureCapacityInternal 12 = .ok (.iload_n 2, 1) := dk_28 (dk_at dksJ14_ensureCapacityInternal_0 12 rfl rfl)
theorem dJ14_ensureCapacityInternal_13 : decode cJ14_ensureCapacityInternal 13 = .ok (.isub, 1) := dk_100 (dk_at dksJ14_ensureCapacityInternal_0 13 rfl rfl)
theorem dJ14_ensureCapacityInternal_14 : decode cJ14_ensureCapacityInternal 14 = .ok (.ifCond .le 24, 3) := dk_158 0 24 (dk_at dksJ14_ensureCapacityInternal_0 14 rfl rfl)
theorem dJ14_ensureCapacityInternal_17 : decode cJ14_ensureCapacityInternal 17 = .ok (.aload_n 0, 1) := dk_42 (dk_at dksJ14_ensureCapacityInternal_0 17 rfl rfl)
theorem dJ14_ensureCapacityInternal_18 : decode cJ14_ensureCapacityInternal 18 = .ok (.aload_n 0, 1) := dk_42 (dk_at dksJ14_ensureCapacityInternal_0 18 rfl rfl)
theorem dJ14_ensureCapacityInternal_19 : decode cJ14_ensureCapacityInternal 19 = .ok (.getfield 15, 3) := dk_180 0 15 (dk_at dksJ14_ensureCapacityInternal_0 19 rfl rfl)
theorem dJ14_ensureCapacityInternal_22 : decode cJ14_ensureCapacityInternal 22 = .ok (.aload_n 0, 1) := dk_42 (dk_at dksJ14_ensureCapacityInternal_0 22 rfl rfl)
theorem dJ14_ensureCapacityInternal_23 : decode cJ14_ensureCapacityInternal 23 = .ok (.iload_n 1, 1) := dk_27 (dk_at dksJ14_ensureCapacityInternal_0 23 rfl rfl)
theorem dJ14_ensureCapacityInternal_24 : decode cJ14_ensureCapacityInternal 24 = .ok (.invokevirtual 104, 3) := dk_182 0 104 (dk_at dksJ14_ensureCapacityInternal_1 0 rfl rfl)
theorem dJ14_ensureCapacityInternal_27 : decode cJ14_ensureCapacityInternal 27 = .ok (.aload_n 0, 1) := dk_42 (dk_at dksJ14_ensureCapacityInternal_1 3 rfl rfl)
theorem dJ14_ensureCapacityInternal_28 : decode cJ14_ensureCapacityInternal 28 = .ok (.getfield 22, 3) := dk_180 0 22 (dk_at dksJ14_ensureCapacityInternal_1 4 rfl rfl)
theorem dJ14_ensureCapacityInternal_31 : decode cJ14_ensureCapacityInternal 31 = .ok (.ishl, 1) := dk_120 (dk_at dksJ14_ensureCapacityInternal_1 7 rfl rfl)
theorem dJ14_ensureCapacityInternal_32 : decode cJ14_ensureCapacityInternal 32 = .ok (.invokestatic 108, 3) := dk_184 0 108 (dk_at dksJ14_ensureCapacityInternal_1 8 rfl rfl)
theorem dJ14_ensureCapacityInternal_35 : decode cJ14_ensureCapacityInternal 35 = .ok (.putfield 15, 3) := dk_181 0 15 (dk_at dksJ14_ensureCapacityInternal_1 11 rfl rfl)
theorem dJ14_ensureCapacityInternal_38 : decode cJ14_ensureCapacityInternal 38 = .ok (.return_, 1) := dk_177 (dk_at dksJ14_ensureCapacityInternal_1 14 rfl rfl)
abbrev cJ14_newCapacity : ByteArray := prog_26_method_10_code
def yJ14_newCapacity : MethodName := ⟨RJ14, "newCapacity", "(I)I"⟩
def dkwJ14_newCapacity_2 : List UInt8 := [183, 0, 124, 191, 21, 5, 42, 180, 0, 22, 122, 172]
abbrev dktJ14_newCapacity_2 : List UInt8 := dkwJ14_newCapacity_2 ++ []
def dkwJ14_newCapacity_1 : List UInt8 := [180, 0, 22, 120, 96, 184, 0, 114, 54, 5, 21, 5, 18, 39, 160, 0, 13, 187, 0, 120, 89, 18, 122]
abbrev dktJ14_newCapacity_1 : List UInt8 := dkwJ14_newCapacity_1 ++ dktJ14_newCapacity_2
def dkwJ14_newCapacity_0 : List UInt8 := [42, 180, 0, 15, 190, 61, 27, 42, 180, 0, 22, 120, 62, 29, 28, 100, 54, 4, 28, 21, 4, 28, 5, 42]
abbrev dktJ14_newCapacity_0 : List UInt8 := dkwJ14_newCapacity_0 ++ dktJ14_newCapacity_1
theorem dksJ14_newCapacity_0 : cJ14_newCapacity.data.toList.drop 0 = dktJ14_newCapacity_0 := by decide +kernel
theorem dksJ14_newCapacity_1 : cJ14_newCapacity.data.toList.drop 24 = dktJ14_newCapacity_1 := dk_seg dksJ14_newCapacity_0 24 rfl rfl
theorem dksJ14_newCapacity_2 : cJ14_newCapacity.data.toList.drop 47 = dktJ14_newCapacity_2 := dk_seg dksJ14_newCapacity_1 23 rfl rfl
theorem dJ14_newCapacity_0 : decode cJ14_newCapacity 0 = .ok (.aload_n 0, 1) := dk_42 (dk_at dksJ14_newCapacity_0 0 rfl rfl)
theorem dJ14_newCapacity_1 : decode cJ14_newCapacity 1 = .ok (.getfield 15, 3) := dk_180 0 15 (dk_at dksJ14_newCapacity_0 1 rfl rfl)
theorem dJ14_newCapacity_4 : decode cJ14_newCapacity 4 = .ok (.arraylength, 1) := dk_190 (dk_at dksJ14_newCapacity_0 4 rfl rfl)
theorem dJ14_newCapacity_5 : decode cJ14_newCapacity 5 = .ok (.istore_n 2, 1) := dk_61 (dk_at dksJ14_newCapacity_0 5 rfl rfl)
theorem dJ14_newCapacity_6 : decode cJ14_newCapacity 6 = .ok (.iload_n 1, 1) := dk_27 (dk_at dksJ14_newCapacity_0 6 rfl rfl)
theorem dJ14_newCapacity_7 : decode cJ14_newCapacity 7 = .ok (.aload_n 0, 1) := dk_42 (dk_at dksJ14_newCapacity_0 7 rfl rfl)
theorem dJ14_newCapacity_8 : decode cJ14_newCapacity 8 = .ok (.getfield 22, 3) := dk_180 0 22 (dk_at dksJ14_newCapacity_0 8 rfl rfl)
theorem dJ14_newCapacity_11 : decode cJ14_newCapacity 11 = .ok (.ishl, 1) := dk_120 (dk_at dksJ14_newCapacity_0 11 rfl rfl)
theorem dJ14_newCapacity_12 : decode cJ14_newCapacity 12 = .ok (.istore_n 3, 1) := dk_62 (dk_at dksJ14_newCapacity_0 12 rfl rfl)
theorem dJ14_newCapacity_13 : decode cJ14_newCapacity 13 = .ok (.iload_n 3, 1) := dk_29 (dk_at dksJ14_newCapacity_0 13 rfl rfl)
theorem dJ14_newCapacity_14 : decode cJ14_newCapacity 14 = .ok (.iload_n 2, 1) := dk_28 (dk_at dksJ14_newCapacity_0 14 rfl rfl)
theorem dJ14_newCapacity_15 : decode cJ14_newCapacity 15 = .ok (.isub, 1) := dk_100 (dk_at dksJ14_newCapacity_0 15 rfl rfl)
theorem dJ14_newCapacity_16 : decode cJ14_newCapacity 16 = .ok (.istore 4, 2) := dk_54 4 (dk_at dksJ14_newCapacity_0 16 rfl rfl)
theorem dJ14_newCapacity_18 : decode cJ14_newCapacity 18 = .ok (.iload_n 2, 1) := dk_28 (dk_at dksJ14_newCapacity_0 18 rfl rfl)
theorem dJ14_newCapacity_19 : decode cJ14_newCapacity 19 = .ok (.iload 4, 2) := dk_21 4 (dk_at dksJ14_newCapacity_0 19 rfl rfl)
theorem dJ14_newCapacity_21 : decode cJ14_newCapacity 21 = .ok (.iload_n 2, 1) := dk_28 (dk_at dksJ14_newCapacity_0 21 rfl rfl)
theorem dJ14_newCapacity_22 : decode cJ14_newCapacity 22 = .ok (.iconst 2, 1) := dk_5 (dk_at dksJ14_newCapacity_0 22 rfl rfl)
theorem dJ14_newCapacity_23 : decode cJ14_newCapacity 23 = .ok (.aload_n 0, 1) := dk_42 (dk_at dksJ14_newCapacity_0 23 rfl rfl)
theorem dJ14_newCapacity_24 : decode cJ14_newCapacity 24 = .ok (.getfield 22, 3) := dk_180 0 22 (dk_at dksJ14_newCapacity_1 0 rfl rfl)
theorem dJ14_newCapacity_27 : decode cJ14_newCapacity 27 = .ok (.ishl, 1) := dk_120 (dk_at dksJ14_newCapacity_1 3 rfl rfl)
theorem dJ14_newCapacity_28 : decode cJ14_newCapacity 28 = .ok (.iadd, 1) := dk_96 (dk_at dksJ14_newCapacity_1 4 rfl rfl)
theorem dJ14_newCapacity_29 : decode cJ14_newCapacity 29 = .ok (.invokestatic 114, 3) := dk_184 0 114 (dk_at dksJ14_newCapacity_1 5 rfl rfl)
theorem dJ14_newCapacity_32 : decode cJ14_newCapacity 32 = .ok (.istore 5, 2) := dk_54 5 (dk_at dksJ14_newCapacity_1 8 rfl rfl)
theorem dJ14_newCapacity_34 : decode cJ14_newCapacity 34 = .ok (.iload 5, 2) := dk_21 5 (dk_at dksJ14_newCapacity_1 10 rfl rfl)
theorem dJ14_newCapacity_36 : decode cJ14_newCapacity 36 = .ok (.ldc 39, 2) := dk_18 39 (dk_at dksJ14_newCapacity_1 12 rfl rfl)
theorem dJ14_newCapacity_38 : decode cJ14_newCapacity 38 = .ok (.if_icmp .ne 13, 3) := dk_160 0 13 (dk_at dksJ14_newCapacity_1 14 rfl rfl)
theorem dJ14_newCapacity_41 : decode cJ14_newCapacity 41 = .ok (.new 120, 3) := dk_187 0 120 (dk_at dksJ14_newCapacity_1 17 rfl rfl)
theorem dJ14_newCapacity_44 : decode cJ14_newCapacity 44 = .ok (.dup, 1) := dk_89 (dk_at dksJ14_newCapacity_1 20 rfl rfl)
theorem dJ14_newCapacity_45 : decode cJ14_newCapacity 45 = .ok (.ldc 122, 2) := dk_18 122 (dk_at dksJ14_newCapacity_1 21 rfl rfl)
theorem dJ14_newCapacity_47 : decode cJ14_newCapacity 47 = .ok (.invokespecial 124, 3) := dk_183 0 124 (dk_at dksJ14_newCapacity_2 0 rfl rfl)
theorem dJ14_newCapacity_50 : decode cJ14_newCapacity 50 = .ok (.athrow, 1) := dk_191 (dk_at dksJ14_newCapacity_2 3 rfl rfl)
theorem dJ14_newCapacity_51 : decode cJ14_newCapacity 51 = .ok (.iload 5, 2) := dk_21 5 (dk_at dksJ14_newCapacity_2 4 rfl rfl)
theorem dJ14_newCapacity_53 : decode cJ14_newCapacity 53 = .ok (.aload_n 0, 1) := dk_42 (dk_at dksJ14_newCapacity_2 6 rfl rfl)
theorem dJ14_newCapacity_54 : decode cJ14_newCapacity 54 = .ok (.getfield 22, 3) := dk_180 0 22 (dk_at dksJ14_newCapacity_2 7 rfl rfl)
theorem dJ14_newCapacity_57 : decode cJ14_newCapacity 57 = .ok (.ishr, 1) := dk_122 (dk_at dksJ14_newCapacity_2 10 rfl rfl)
theorem dJ14_newCapacity_58 : decode cJ14_newCapacity 58 = .ok (.ireturn, 1) := dk_172 (dk_at dksJ14_newCapacity_2 11 rfl rfl)
abbrev cJ14_isLatin1 : ByteArray := prog_26_method_68_code
def yJ14_isLatin1 : MethodName := ⟨RJ14, "isLatin1", "()Z"⟩
def dkwJ14_isLatin1_0 : List UInt8 := [178, 0, 18, 153, 0, 14, 42, 180, 0, 22, 154, 0, 7, 4, 167, 0, 4, 3, 172]
abbrev dktJ14_isLatin1_0 : List UInt8 := dkwJ14_isLatin1_0 ++ []
theorem dksJ14_isLatin1_0 : cJ14_isLatin1.data.toList.drop 0 = dktJ14_isLatin1_0 := by decide +kernel
theorem dJ14_isLatin1_0 : decode cJ14_isLatin1 0 = .ok (.getstatic 18, 3) := dk_178 0 18 (dk_at dksJ14_isLatin1_0 0 rfl rfl)
theorem dJ14_isLatin1_3 : decode cJ14_isLatin1 3 = .ok (.ifCond .eq 14, 3) := dk_153 0 14 (dk_at dksJ14_isLatin1_0 3 rfl rfl)
theorem dJ14_isLatin1_6 : decode cJ14_isLatin1 6 = .ok (.aload_n 0, 1) := dk_42 (dk_at dksJ14_isLatin1_0 6 rfl rfl)
theorem dJ14_isLatin1_7 : decode cJ14_isLatin1 7 = .ok (.getfield 22, 3) := dk_180 0 22 (dk_at dksJ14_isLatin1_0 7 rfl rfl)
theorem dJ14_isLatin1_10 : decode cJ14_isLatin1 10 = .ok (.ifCond .ne 7, 3) := dk_154 0 7 (dk_at dksJ14_isLatin1_0 10 rfl rfl)
theorem dJ14_isLatin1_13 : decode cJ14_isLatin1 13 = .ok (.iconst 1, 1) := dk_4 (dk_at dksJ14_isLatin1_0 13 rfl rfl)
theorem dJ14_isLatin1_14 : decode cJ14_isLatin1 14 = .ok (.goto 4, 3) := dk_167 0 4 (dk_at dksJ14_isLatin1_0 14 rfl rfl)
theorem dJ14_isLatin1_17 : decode cJ14_isLatin1 17 = .ok (.iconst 0, 1) := dk_3 (dk_at dksJ14_isLatin1_0 17 rfl rfl)
theorem dJ14_isLatin1_18 : decode cJ14_isLatin1 18 = .ok (.ireturn, 1) := dk_172 (dk_at dksJ14_isLatin1_0 18 rfl rfl)
abbrev cJ14_inflate : ByteArray := prog_26_method_11_code
def yJ14_inflate : MethodName := ⟨RJ14, "inflate", "()V"⟩
def dkwJ14_inflate_1 : List UInt8 := [42, 180, 0, 79, 184, 0, 125, 42, 43, 181, 0, 15, 42, 4, 181, 0, 22, 177]
abbrev dktJ14_inflate_1 : List UInt8 := dkwJ14_inflate_1 ++ []
def dkwJ14_inflate_0 : List UInt8 := [42, 182, 0, 83, 154, 0, 4, 177, 42, 180, 0, 15, 190, 184, 0, 26, 76, 42, 180, 0, 15, 3, 43, 3]
abbrev dktJ14_inflate_0 : List UInt8 := dkwJ14_inflate_0 ++ dktJ14_inflate_1
theorem dksJ14_inflate_0 : cJ14_inflate.data.toList.drop 0 = dktJ14_inflate_0 := by decide +kernel
theorem dksJ14_inflate_1 : cJ14_inflate.data.toList.drop 24 = dktJ14_inflate_1 := dk_seg dksJ14_inflate_0 24 rfl rfl
theorem dJ14_inflate_0 : decode cJ14_inflate 0 = .ok (.aload_n 0, 1) := dk_42 (dk_at dksJ14_inflate_0 0 rfl rfl)
theorem dJ14_inflate_1 : decode cJ14_inflate 1 = .ok (.invokevirtual 83, 3) := dk_182 0 83 (dk_at dksJ14_inflate_0 1 rfl rfl)
theorem dJ14_inflate_4 : decode cJ14_inflate 4 = .ok (.ifCond .ne 4, 3) := dk_154 0 4 (dk_at dksJ14_inflate_0 4 rfl rfl)
theorem dJ14_inflate_7 : decode cJ14_inflate 7 = .ok (.return_, 1) := dk_177 (dk_at dksJ14_inflate_0 7 rfl rfl)
theorem dJ14_inflate_8 : decode cJ14_inflate 8 = .ok (.aload_n 0, 1) := dk_42 (dk_at dksJ14_inflate_0 8 rfl rfl)
theorem dJ14_inflate_9 : decode cJ14_inflate 9 = .ok (.getfield 15, 3) := dk_180 0 15 (dk_at dksJ14_inflate_0 9 rfl rfl)
theorem dJ14_inflate_12 : decode cJ14_inflate 12 = .ok (.arraylength, 1) := dk_190 (dk_at dksJ14_inflate_0 12 rfl rfl)
theorem dJ14_inflate_13 : decode cJ14_inflate 13 = .ok (.invokestatic 26, 3) := dk_184 0 26 (dk_at dksJ14_inflate_0 13 rfl rfl)
theorem dJ14_inflate_16 : decode cJ14_inflate 16 = .ok (.astore_n 1, 1) := dk_76 (dk_at dksJ14_inflate_0 16 rfl rfl)
theorem dJ14_inflate_17 : decode cJ14_inflate 17 = .ok (.aload_n 0, 1) := dk_42 (dk_at dksJ14_inflate_0 17 rfl rfl)
theorem dJ14_inflate_18 : decode cJ14_inflate 18 = .ok (.getfield 15, 3) := dk_180 0 15 (dk_at dksJ14_inflate_0 18 rfl rfl)
theorem dJ14_inflate_21 : decode cJ14_inflate 21 = .ok (.iconst 0, 1) := dk_3 (dk_at dksJ14_inflate_0 21 rfl rfl)
theorem dJ14_inflate_22 : decode cJ14_inflate 22 = .ok (.aload_n 1, 1) := dk_43 (dk_at dksJ14_inflate_0 22 rfl rfl)
theorem dJ14_inflate_23 : decode cJ14_inflate 23 = .ok (.iconst 0, 1) := dk_3 (dk_at dksJ14_inflate_0 23 rfl rfl)
theorem dJ14_inflate_24 : decode cJ14_inflate 24 = .ok (.aload_n 0, 1) := dk_42 (dk_at dksJ14_inflate_1 0 rfl rfl)
theorem dJ14_inflate_25 : decode cJ14_inflate 25 = .ok (.getfield 79, 3) := dk_180 0 79 (dk_at dksJ14_inflate_1 1 rfl rfl)
theorem dJ14_inflate_28 : decode cJ14_inflate 28 = .ok (.invokestatic 125, 3) := dk_184 0 125 (dk_at dksJ14_inflate_1 4 rfl rfl)
theorem dJ14_inflate_31 : decode cJ14_inflate 31 = .ok (.aload_n 0, 1) := dk_42 (dk_at dksJ14_inflate_1 7 rfl rfl)
theorem dJ14_inflate_32 : decode cJ14_inflate 32 = .ok (.aload_n 1, 1) := dk_43 (dk_at dksJ14_inflate_1 8 rfl rfl)
theorem dJ14_inflate_33 : decode cJ14_inflate 33 = .ok (.putfield 15, 3) := dk_181 0 15 (dk_at dksJ14_inflate_1 9 rfl rfl)
theorem dJ14_inflate_36 : decode cJ14_inflate 36 = .ok (.aload_n 0, 1) := dk_42 (dk_at dksJ14_inflate_1 12 rfl rfl)
theorem dJ14_inflate_37 : decode cJ14_inflate 37 = .ok (.iconst 1, 1) := dk_4 (dk_at dksJ14_inflate_1 13 rfl rfl)
theorem dJ14_inflate_38 : decode cJ14_inflate 38 = .ok (.putfield 22, 3) := dk_181 0 22 (dk_at dksJ14_inflate_1 14 rfl rfl)
theorem dJ14_inflate_41 : decode cJ14_inflate 41 = .ok (.return_, 1) := dk_177 (dk_at dksJ14_inflate_1 17 rfl rfl)
abbrev cJ14_charAt : ByteArray := prog_26_method_14_code
def yJ14_charAt : MethodName := ⟨RJ14, "charAt", "(I)C"⟩
def dkwJ14_charAt_1 : List UInt8 := [21, 4, 184, 0, 144, 28, 154, 0, 12, 45, 27, 51, 17, 0, 255, 126, 146, 172, 45, 27, 184, 0, 148, 172]
abbrev dktJ14_charAt_1 : List UInt8 := dkwJ14_charAt_1 ++ []
def dkwJ14_charAt_0 : List UInt8 := [42, 180, 0, 22, 61, 42, 180, 0, 15, 78, 42, 180, 0, 79, 45, 190, 28, 122, 184, 0, 138, 54, 4, 27]
abbrev dktJ14_charAt_0 : List UInt8 := dkwJ14_charAt_0 ++ dktJ14_charAt_1
theorem dksJ14_charAt_0 : cJ14_charAt.data.toList.drop 0 = dktJ14_charAt_0 := by decide +kernel
theorem dksJ14_charAt_1 : cJ14_charAt.data.toList.drop 24 = dktJ14_charAt_1 := dk_seg dksJ14_charAt_0 24 rfl rfl
theorem dJ14_charAt_0 : decode cJ14_charAt 0 = .ok (.aload_n 0, 1) := dk_42 (dk_at dksJ14_charAt_0 0 rfl rfl)
theorem dJ14_charAt_1 : decode cJ14_charAt 1 = .ok (.getfield 22, 3) := dk_180 0 22 (dk_at dksJ14_charAt_0 1 rfl rfl)
theorem dJ14_charAt_4 : decode cJ14_charAt 4 = .ok (.istore_n 2, 1) := dk_61 (dk_at dksJ14_charAt_0 4 rfl rfl)
theorem dJ14_charAt_5 : decode cJ14_charAt 5 = .ok (.aload_n 0, 1) := dk_42 (dk_at dksJ14_charAt_0 5 rfl rfl)
theorem dJ14_charAt_6 : decode cJ14_charAt 6 = .ok (.getfield 15, 3) := dk_180 0 15 (dk_at dksJ14_charAt_0 6 rfl rfl)
theorem dJ14_charAt_9 : decode cJ14_charAt 9 = .ok (.astore_n 3, 1) := dk_78 (dk_at dksJ14_charAt_0 9 rfl rfl)
theorem dJ14_charAt_10 : decode cJ14_charAt 10 = .ok (.aload_n 0, 1) := dk_42 (dk_at dksJ14_charAt_0 10 rfl rfl)
theorem dJ14_charAt_11 : decode cJ14_charAt 11 = .ok (.getfield 79, 3) := dk_180 0 79 (dk_at dksJ14_charAt_0 11 rfl rfl)
theorem dJ14_charAt_14 : decode cJ14_charAt 14 = .ok (.aload_n 3, 1) := dk_45 (dk_at dksJ14_charAt_0 14 rfl rfl)
theorem dJ14_charAt_15 : decode cJ14_charAt 15 = .ok (.arraylength, 1) := dk_190 (dk_at dksJ14_charAt_0 15 rfl rfl)
theorem dJ14_charAt_16 : decode cJ14_charAt 16 = .ok (.iload_n 2, 1) := dk_28 (dk_at dksJ14_charAt_0 16 rfl rfl)
theorem dJ14_charAt_17 : decode cJ14_charAt 17 = .ok (.ishr, 1) := dk_122 (dk_at dksJ14_charAt_0 17 rfl rfl)
theorem dJ14_charAt_18 : decode cJ14_charAt 18 = .ok (.invokestatic 138, 3) := dk_184 0 138 (dk_at dksJ14_charAt_0 18 rfl rfl)
theorem dJ14_charAt_21 : decode cJ14_charAt 21 = .ok (.istore 4, 2) := dk_54 4 (dk_at dksJ14_charAt_0 21 rfl rfl)
theorem dJ14_charAt_23 : decode cJ14_charAt 23 = .ok (.iload_n 1, 1) := dk_27 (dk_at dksJ14_charAt_0 23 rfl rfl)
theorem dJ14_charAt_24 : decode cJ14_charAt 24 = .ok (.iload 4, 2) := dk_21 4 (dk_at dksJ14_charAt_1 0 rfl rfl)
theorem dJ14_charAt_26 : decode cJ14_charAt 26 = .ok (.invokestatic 144, 3) := dk_184 0 144 (dk_at dksJ14_charAt_1 2 rfl rfl)
theorem dJ14_charAt_29 : decode cJ14_charAt 29 = .ok (.iload_n 2, 1) := dk_28 (dk_at dksJ14_charAt_1 5 rfl rfl)
theorem dJ14_charAt_30 : decode cJ14_charAt 30 = .ok (.ifCond .ne 12, 3) := dk_154 0 12 (dk_at dksJ14_charAt_1 6 rfl rfl)
theorem dJ14_charAt_33 : decode cJ14_charAt 33 = .ok (.aload_n 3, 1) := dk_45 (dk_at dksJ14_charAt_1 9 rfl rfl)
theorem dJ14_charAt_34 : decode cJ14_charAt 34 = .ok (.iload_n 1, 1) := dk_27 (dk_at dksJ14_charAt_1 10 rfl rfl)
theorem dJ14_charAt_35 : decode cJ14_charAt 35 = .ok (.baload, 1) := dk_51 (dk_at dksJ14_charAt_1 11 rfl rfl)
theorem dJ14_charAt_36 : decode cJ14_charAt 36 = .ok (.sipush 255, 3) := dk_17 0 255 (dk_at dksJ14_charAt_1 12 rfl rfl)
theorem dJ14_charAt_39 : decode cJ14_charAt 39 = .ok (.iand, 1) := dk_126 (dk_at dksJ14_charAt_1 15 rfl rfl)
theorem dJ14_charAt_40 : decode cJ14_charAt 40 = .ok (.i2c, 1) := dk_146 (dk_at dksJ14_charAt_1 16 rfl rfl)
theorem dJ14_charAt_41 : decode cJ14_charAt 41 = .ok (.ireturn, 1) := dk_172 (dk_at dksJ14_charAt_1 17 rfl rfl)
theorem dJ14_charAt_42 : decode cJ14_charAt 42 = .ok (.aload_n 3, 1) := dk_45 (dk_at dksJ14_charAt_1 18 rfl rfl)
theorem dJ14_charAt_43 : decode cJ14_charAt 43 = .ok (.iload_n 1, 1) := dk_27 (dk_at dksJ14_charAt_1 19 rfl rfl)
theorem dJ14_charAt_44 : decode cJ14_charAt 44 = .ok (.invokestatic 148, 3) := dk_184 0 148 (dk_at dksJ14_charAt_1 20 rfl rfl)
theorem dJ14_charAt_47 : decode cJ14_charAt 47 = .ok (.ireturn, 1) := dk_172 (dk_at dksJ14_charAt_1 23 rfl rfl)
theorem q195 : (Jvm.Cond.initialized "java/lang/AbstractStringBuilder") ∈ lw_all := lw_g (lw_at lw_m1 29 rfl) rfl
theorem q1051 : (Jvm.Cond.instanceMethod ({ cls := "java/lang/AbstractStringBuilder", name := "<init>", desc := "(I)V" } : Jvm.MethodName)) ∈ lw_all := lw_g (lw_at lw_m4 165 rfl) rfl
theorem q1052 : (Jvm.Cond.code ({ cls := "java/lang/AbstractStringBuilder", name := "<init>", desc := "(I)V" } : Jvm.MethodName) prog_26_method_2_code (2 : Nat) (Option.none : Option Jvm.ClassFile.FieldType)) ∈ lw_all := lw_g (lw_at lw_m4 166 rfl) rfl
theorem q1053 : (Jvm.Cond.methodLink "java/lang/AbstractStringBuilder" (3 : Nat) ({ cls := "java/lang/Object", name := "<init>", desc := "()V" } : Jvm.MethodName)) ∈ lw_all := lw_g (lw_at lw_m4 167 rfl) rfl
theorem q1054 : (Jvm.Cond.fieldLink "java/lang/AbstractStringBuilder" (18 : Nat) "java/lang/String" "COMPACT_STRINGS" "Z") ∈ lw_all := lw_g (lw_at lw_m4 168 rfl) rfl
theorem q1055 : (Jvm.Cond.methodLink "java/lang/AbstractStringBuilder" (26 : Nat) ({ cls := "java/lang/StringUTF16", name := "newBytesFor", desc := "(I)[B" } : Jvm.MethodName)) ∈ lw_all := lw_g (lw_at lw_m4 169 rfl) rfl
theorem q1056 : (Jvm.Cond.fieldLink "java/lang/AbstractStringBuilder" (15 : Nat) "java/lang/AbstractStringBuilder" "value" "[B") ∈ lw_all := lw_g (lw_at lw_m4 170 rfl) rfl
theorem q1057 : (Jvm.Cond.fieldLink "java/lang/AbstractStringBuilder" (22 : Nat) "java/lang/AbstractStringBuilder" "coder" "B") ∈ lw_all := lw_g (lw_at lw_m4 171 rfl) rfl
theorem q1058 : (Jvm.Cond.fieldLink "java/lang/AbstractStringBuilder" (79 : Nat) "java/lang/AbstractStringBuilder" "count" "I") ∈ lw_all := lw_g (lw_at lw_m4 172 rfl) rfl
theorem q1060 : (Jvm.Cond.soleField "java/lang/AbstractStringBuilder" "value") ∈ lw_all := lw_g (lw_at lw_m4 174 rfl) rfl
theorem q1062 : (Jvm.Cond.soleField "java/lang/AbstractStringBuilder" "coder") ∈ lw_all := lw_g (lw_at lw_m4 176 rfl) rfl
theorem q1064 : (Jvm.Cond.soleField "java/lang/AbstractStringBuilder" "maybeLatin1") ∈ lw_all := lw_g (lw_at lw_m4 178 rfl) rfl
theorem q1066 : (Jvm.Cond.soleField "java/lang/AbstractStringBuilder" "count") ∈ lw_all := lw_g (lw_at lw_m4 180 rfl) rfl
theorem q1169 : (Jvm.Cond.instanceMethod ({ cls := "java/lang/AbstractStringBuilder", name := "append", desc := "(C)Ljava/lang/AbstractStringBuilder;" } : Jvm.MethodName)) ∈ lw_all := lw_g (lw_at lw_m5 43 rfl) rfl
theorem q1170 : (Jvm.Cond.code ({ cls := "java/lang/AbstractStringBuilder", name := "append", desc := "(C)Ljava/lang/AbstractStringBuilder;" } : Jvm.MethodName) prog_26_method_31_code (2 : Nat) (Option.some (Jvm.ClassFile.FieldType.object "java/lang/AbstractStringBuilder"))) ∈ lw_all := lw_g (lw_at lw_m5 44 rfl) rfl
theorem q1171 : (Jvm.Cond.methodLink "java/lang/AbstractStringBuilder" (100 : Nat) ({ cls := "java/lang/AbstractStringBuilder", name := "ensureCapacityInternal", desc := "(I)V" } : Jvm.MethodName)) ∈ lw_all := lw_g (lw_at lw_m5 45 rfl) rfl
theorem q1172 : (Jvm.Cond.privateMethod ({ cls := "java/lang/AbstractStringBuilder", name := "ensureCapacityInternal", desc := "(I)V" } : Jvm.MethodName)) ∈ lw_tbl := lw_at lw_m5 46 rfl
theorem q1173 : (Jvm.Cond.instanceMethod ({ cls := "java/lang/AbstractStringBuilder", name := "ensureCapacityInternal", desc := "(I)V" } : Jvm.MethodName)) ∈ lw_all := lw_g (lw_at lw_m5 47 rfl) rfl
theorem q1174 : (Jvm.Cond.code ({ cls := "java/lang/AbstractStringBuilder", name := "ensureCapacityInternal", desc := "(I)V" } : Jvm.MethodName) prog_26_method_9_code (3 : Nat) (Option.none : Option Jvm.ClassFile.FieldType)) ∈ lw_all := lw_g (lw_at lw_m5 48 rfl) rfl
theorem q1175 : (Jvm.Cond.methodLink "java/lang/AbstractStringBuilder" (104 : Nat) ({ cls := "java/lang/AbstractStringBuilder", name := "newCapacity", desc := "(I)I" } : Jvm.MethodName)) ∈ lw_all := lw_g (lw_at lw_m5 49 rfl) rfl
theorem q1176 : (Jvm.Cond.privateMethod ({ cls := "java/lang/AbstractStringBuilder", name := "newCapacity", desc := "(I)I" } : Jvm.MethodName)) ∈ lw_tbl := lw_at lw_m5 50 rfl
theorem q1177 : (Jvm.Cond.instanceMethod ({ cls := "java/lang/AbstractStringBuilder", name := "newCapacity", desc := "(I)I" } : Jvm.MethodName)) ∈ lw_all := lw_g (lw_at lw_m5 51 rfl) rfl
theorem q1178 : (Jvm.Cond.code ({ cls := "java/lang/AbstractStringBuilder", name := "newCapacity", desc := "(I)I" } : Jvm.MethodName) prog_26_method_10_code (6 : Nat) (Option.some Jvm.ClassFile.FieldType.int)) ∈ lw_all := lw_g (lw_at lw_m5 52 rfl) rfl
theorem q1179 : (Jvm.Cond.methodLink "java/lang/AbstractStringBuilder" (114 : Nat) ({ cls := "jdk/internal/util/ArraysSupport", name := "newLength", desc := "(III)I" } : Jvm.MethodName)) ∈ lw_all := lw_g (lw_at lw_m5 53 rfl) rfl
theorem q1180 : (Jvm.Cond.constant "java/lang/AbstractStringBuilder" (39 : Nat) (2147483647 : Int32)) ∈ lw_all := lw_g (lw_at lw_m5 54 rfl) rfl
theorem q1181 : (Jvm.Cond.methodLink "java/lang/AbstractStringBuilder" (108 : Nat) ({ cls := "java/util/Arrays", name := "copyOf", desc := "([BI)[B" } : Jvm.MethodName)) ∈ lw_all := lw_g (lw_at lw_m5 55 rfl) rfl
theorem q1191 : (Jvm.Cond.methodLink "java/lang/AbstractStringBuilder" (83 : Nat) ({ cls := "java/lang/AbstractStringBuilder", name := "isLatin1", desc := "()Z" } : Jvm.MethodName)) ∈ lw_all := lw_g (lw_at lw_m5 65 rfl) rfl
theorem q1192 : (Jvm.Cond.instanceMethod ({ cls := "java/lang/AbstractStringBuilder", name := "isLatin1", desc := "()Z" } : Jvm.MethodName)) ∈ lw_all := lw_g (lw_at lw_m5 66 rfl) rfl
theorem q1193 : (Jvm.Cond.sameMethod "java/lang/AbstractStringBuilder" "java/lang/AbstractStringBuilder" "isLatin1" "()Z") ∈ lw_all := lw_g (lw_at lw_m5 67 rfl) rfl
theorem q1195 : (Jvm.Cond.code ({ cls := "java/lang/AbstractStringBuilder", name := "isLatin1", desc := "()Z" } : Jvm.MethodName) prog_26_method_68_code (1 : Nat) (Option.some Jvm.ClassFile.FieldType.boolean)) ∈ lw_all := lw_g (lw_at lw_m5 69 rfl) rfl
theorem q1196 : (Jvm.Cond.methodLink "java/lang/AbstractStringBuilder" (191 : Nat) ({ cls := "java/lang/StringLatin1", name := "canEncode", desc := "(C)Z" } : Jvm.MethodName)) ∈ lw_all := lw_g (lw_at lw_m5 70 rfl) rfl
theorem q1199 : (Jvm.Cond.methodLink "java/lang/AbstractStringBuilder" (195 : Nat) ({ cls := "java/lang/AbstractStringBuilder", name := "inflate", desc := "()V" } : Jvm.MethodName)) ∈ lw_all := lw_g (lw_at lw_m5 73 rfl) rfl
theorem q1200 : (Jvm.Cond.privateMethod ({ cls := "java/lang/AbstractStringBuilder", name := "inflate", desc := "()V" } : Jvm.MethodName)) ∈ lw_tbl := lw_at lw_m5 74 rfl
theorem q1201 : (Jvm.Cond.instanceMethod ({ cls := "java/lang/AbstractStringBuilder", name := "inflate", desc := "()V" } : Jvm.MethodName)) ∈ lw_all := lw_g (lw_at lw_m5 75 rfl) rfl
theorem q1202 : (Jvm.Cond.code ({ cls := "java/lang/AbstractStringBuilder", name := "inflate", desc := "()V" } : Jvm.MethodName) prog_26_method_11_code (2 : Nat) (Option.none : Option Jvm.ClassFile.FieldType)) ∈ lw_all := lw_g (lw_at lw_m5 76 rfl) rfl
theorem q1203 : (Jvm.Cond.methodLink "java/lang/AbstractStringBuilder" (125 : Nat) ({ cls := "java/lang/StringLatin1", name := "inflate", desc := "([BI[BII)V" } : Jvm.MethodName)) ∈ lw_all := lw_g (lw_at lw_m5 77 rfl) rfl
theorem q1209 : (Jvm.Cond.methodLink "java/lang/AbstractStringBuilder" (197 : Nat) ({ cls := "java/lang/StringUTF16", name := "putCharSB", desc := "([BII)V" } : Jvm.MethodName)) ∈ lw_all := lw_g (lw_at lw_m5 83 rfl) rfl
theorem q1467 : (Jvm.Cond.instanceMethod ({ cls := "java/lang/AbstractStringBuilder", name := "charAt", desc := "(I)C" } : Jvm.MethodName)) ∈ lw_all := lw_g (lw_at lw_m6 101 rfl) rfl
theorem q1468 : (Jvm.Cond.code ({ cls := "java/lang/AbstractStringBuilder", name := "charAt", desc := "(I)C" } : Jvm.MethodName) prog_26_method_14_code (5 : Nat) (Option.some Jvm.ClassFile.FieldType.char)) ∈ lw_all := lw_g (lw_at lw_m6 102 rfl) rfl
theorem q1469 : (Jvm.Cond.methodLink "java/lang/AbstractStringBuilder" (138 : Nat) ({ cls := "java/lang/Math", name := "min", desc := "(II)I" } : Jvm.MethodName)) ∈ lw_all := lw_g (lw_at lw_m6 103 rfl) rfl
theorem q1470 : (Jvm.Cond.methodLink "java/lang/AbstractStringBuilder" (144 : Nat) ({ cls := "java/lang/String", name := "checkIndex", desc := "(II)V" } : Jvm.MethodName)) ∈ lw_all := lw_g (lw_at lw_m6 104 rfl) rfl
theorem q1471 : (Jvm.Cond.methodLink "java/lang/AbstractStringBuilder" (148 : Nat) ({ cls := "java/lang/StringUTF16", name := "getChar", desc := "([BI)C" } : Jvm.MethodName)) ∈ lw_all := lw_g (lw_at lw_m6 105 rfl) rfl
theorem q2657 : (Jvm.Cond.sameMethod "java/lang/AbstractStringBuilder" "java/lang/AbstractStringBuilder" "append" "(C)Ljava/lang/AbstractStringBuilder;") ∈ lw_all := lw_g (lw_at lw_m11 91 rfl) rfl
theorem q2658 : (Jvm.Cond.sameMethod "java/lang/AbstractStringBuilder" "java/lang/AbstractStringBuilder" "ensureCapacityInternal" "(I)V") ∈ lw_all := lw_g (lw_at lw_m11 92 rfl) rfl
theorem q2659 : (Jvm.Cond.sameMethod "java/lang/AbstractStringBuilder" "java/lang/AbstractStringBuilder" "newCapacity" "(I)I") ∈ lw_all := lw_g (lw_at lw_m11 93 rfl) rfl
theorem q2660 : (Jvm.Cond.sameMethod "java/lang/AbstractStringBuilder" "java/lang/AbstractStringBuilder" "inflate" "()V") ∈ lw_all := lw_g (lw_at lw_m11 94 rfl) rfl
theorem q2661 : (Jvm.Cond.sameMethod "java/lang/AbstractStringBuilder" "java/lang/AbstractStringBuilder" "charAt" "(I)C") ∈ lw_all := lw_g (lw_at lw_m11 95 rfl) rfl
/-! java/lang/StringBuilder -/
set_option maxRecDepth 100000
def RJ15 : String := "java/lang/StringBuilder"
def TJ15 : u_T := fun k => match k with
  | 0 => ("java/lang/AbstractStringBuilder", "value", "[B", false)
  | 1 => ("java/lang/AbstractStringBuilder", "coder", "B", false)
  | 2 => ("java/lang/AbstractStringBuilder", "maybeLatin1", "Z", false)
  | _ => ("java/lang/AbstractStringBuilder", "count", "I", false)
def tyJ15 : Nat → FieldType := fun k => match k with
  | 0 => .array .byte
  | 1 => .byte
  | 2 => .boolean
  | _ => .int
abbrev wsJ150 : List Cond := u_ws RJ15 TJ15 4
theorem nmJ15 : ∀ a, a < 4 → ∀ b, b < 4 → a ≠ b → (TJ15 a).2.1 ≠ (TJ15 b).2.1 := by decide +kernel
theorem tyJ15_ok : ∀ k, k < 4 → parseFieldDescriptor (TJ15 k).2.2.1 = some (tyJ15 k) := by decide +kernel
abbrev cJ15_init : ByteArray := prog_37_method_1_code
def yJ15_init : MethodName := ⟨RJ15, "<init>", "()V"⟩
def dkwJ15_init_0 : List UInt8 := [42, 16, 16, 183, 0, 1, 177]
abbrev dktJ15_init_0 : List UInt8 := dkwJ15_init_0 ++ []
theorem dksJ15_init_0 : cJ15_init.data.toList.drop 0 = dktJ15_init_0 := by decide +kernel
theorem dJ15_init_0 : decode cJ15_init 0 = .ok (.aload_n 0, 1) := dk_42 (dk_at dksJ15_init_0 0 rfl rfl)
theorem dJ15_init_1 : decode cJ15_init 1 = .ok (.bipush 16, 2) := dk_16 16 (dk_at dksJ15_init_0 1 rfl rfl)
theorem dJ15_init_3 : decode cJ15_init 3 = .ok (.invokespecial 1, 3) := dk_183 0 1 (dk_at dksJ15_init_0 3 rfl rfl)
theorem dJ15_init_6 : decode cJ15_init 6 = .ok (.return_, 1) := dk_177 (dk_at dksJ15_init_0 6 rfl rfl)
abbrev cJ15_append : ByteArray := prog_37_method_14_code
def yJ15_append : MethodName := ⟨RJ15, "append", "(C)Ljava/lang/StringBuilder;"⟩
def dkwJ15_append_0 : List UInt8 := [42, 27, 183, 0, 50, 87, 42, 176]
abbrev dktJ15_append_0 : List UInt8 := dkwJ15_append_0 ++ []
theorem dksJ15_append_0 : cJ15_append.data.toList.drop 0 = dktJ15_append_0 := by decide +kernel
theorem dJ15_append_0 : decode cJ15_append 0 = .ok (.aload_n 0, 1) := dk_42 (dk_at dksJ15_append_0 0 rfl rfl)
theorem dJ15_append_1 : decode cJ15_append 1 = .ok (.iload_n 1, 1) := dk_27 (dk_at dksJ15_append_0 1 rfl rfl)
theorem dJ15_append_2 : decode cJ15_append 2 = .ok (.invokespecial 50, 3) := dk_183 0 50 (dk_at dksJ15_append_0 2 rfl rfl)
theorem dJ15_append_5 : decode cJ15_append 5 = .ok (.pop, 1) := dk_87 (dk_at dksJ15_append_0 5 rfl rfl)
theorem dJ15_append_6 : decode cJ15_append 6 = .ok (.aload_n 0, 1) := dk_42 (dk_at dksJ15_append_0 6 rfl rfl)
theorem dJ15_append_7 : decode cJ15_append 7 = .ok (.areturn, 1) := dk_176 (dk_at dksJ15_append_0 7 rfl rfl)
abbrev cJ15_charAt : ByteArray := prog_37_method_88_code
def yJ15_charAt : MethodName := ⟨RJ15, "charAt", "(I)C"⟩
def dkwJ15_charAt_0 : List UInt8 := [42, 27, 183, 1, 73, 172]
abbrev dktJ15_charAt_0 : List UInt8 := dkwJ15_charAt_0 ++ []
theorem dksJ15_charAt_0 : cJ15_charAt.data.toList.drop 0 = dktJ15_charAt_0 := by decide +kernel
theorem dJ15_charAt_0 : decode cJ15_charAt 0 = .ok (.aload_n 0, 1) := dk_42 (dk_at dksJ15_charAt_0 0 rfl rfl)
theorem dJ15_charAt_1 : decode cJ15_charAt 1 = .ok (.iload_n 1, 1) := dk_27 (dk_at dksJ15_charAt_0 1 rfl rfl)
theorem dJ15_charAt_2 : decode cJ15_charAt 2 = .ok (.invokespecial 329, 3) := dk_183 1 73 (dk_at dksJ15_charAt_0 2 rfl rfl)
theorem dJ15_charAt_5 : decode cJ15_charAt 5 = .ok (.ireturn, 1) := dk_172 (dk_at dksJ15_charAt_0 5 rfl rfl)
theorem q196 : (Jvm.Cond.initialized "java/lang/StringBuilder") ∈ lw_all := lw_g (lw_at lw_m1 30 rfl) rfl
theorem q904 : (Jvm.Cond.selects "java/lang/StringBuilder" ({ cls := "java/lang/Object", name := "getClass", desc := "()Ljava/lang/Class;" } : Jvm.MethodName) ({ cls := "java/lang/Object", name := "getClass", desc := "()Ljava/lang/Class;" } : Jvm.MethodName)) ∈ lw_all := lw_g (lw_at lw_m4 18 rfl) rfl
theorem q1046 : (Jvm.Cond.instantiable "java/lang/StringBuilder" (4 : Nat)) ∈ lw_all := lw_g (lw_at lw_m4 160 rfl) rfl
theorem q1048 : (Jvm.Cond.instanceMethod ({ cls := "java/lang/StringBuilder", name := "<init>", desc := "()V" } : Jvm.MethodName)) ∈ lw_all := lw_g (lw_at lw_m4 162 rfl) rfl
theorem q1049 : (Jvm.Cond.code ({ cls := "java/lang/StringBuilder", name := "<init>", desc := "()V" } : Jvm.MethodName) prog_37_method_1_code (1 : Nat) (Option.none : Option Jvm.ClassFile.FieldType)) ∈ lw_all := lw_g (lw_at lw_m4 163 rfl) rfl
theorem q1050 : (Jvm.Cond.methodLink "java/lang/StringBuilder" (1 : Nat) ({ cls := "java/lang/AbstractStringBuilder", name := "<init>", desc := "(I)V" } : Jvm.MethodName)) ∈ lw_all := lw_g (lw_at lw_m4 164 rfl) rfl
theorem q1059 : (Jvm.Cond.lays "java/lang/StringBuilder" "java/lang/AbstractStringBuilder" "value" "[B") ∈ lw_all := lw_g (lw_at lw_m4 173 rfl) rfl
theorem q1061 : (Jvm.Cond.lays "java/lang/StringBuilder" "java/lang/AbstractStringBuilder" "coder" "B") ∈ lw_all := lw_g (lw_at lw_m4 175 rfl) rfl
theorem q1063 : (Jvm.Cond.lays "java/lang/StringBuilder" "java/lang/AbstractStringBuilder" "maybeLatin1" "Z") ∈ lw_all := lw_g (lw_at lw_m4 177 rfl) rfl
theorem q1065 : (Jvm.Cond.lays "java/lang/StringBuilder" "java/lang/AbstractStringBuilder" "count" "I") ∈ lw_all := lw_g (lw_at lw_m4 179 rfl) rfl
theorem q1067 : (Jvm.Cond.superclass "java/lang/StringBuilder" "java/lang/AbstractStringBuilder") ∈ lw_all := lw_g (lw_at lw_m4 181 rfl) rfl
theorem q1165 : (Jvm.Cond.instanceMethod ({ cls := "java/lang/StringBuilder", name := "append", desc := "(C)Ljava/lang/StringBuilder;" } : Jvm.MethodName)) ∈ lw_all := lw_g (lw_at lw_m5 39 rfl) rfl
theorem q1166 : (Jvm.Cond.selects "java/lang/StringBuilder" ({ cls := "java/lang/StringBuilder", name := "append", desc := "(C)Ljava/lang/StringBuilder;" } : Jvm.MethodName) ({ cls := "java/lang/StringBuilder", name := "append", desc := "(C)Ljava/lang/StringBuilder;" } : Jvm.MethodName)) ∈ lw_all := lw_g (lw_at lw_m5 40 rfl) rfl
theorem q1167 : (Jvm.Cond.code ({ cls := "java/lang/StringBuilder", name := "append", desc := "(C)Ljava/lang/StringBuilder;" } : Jvm.MethodName) prog_37_method_14_code (2 : Nat) (Option.some (Jvm.ClassFile.FieldType.object "java/lang/StringBuilder"))) ∈ lw_all := lw_g (lw_at lw_m5 41 rfl) rfl
theorem q1168 : (Jvm.Cond.methodLink "java/lang/StringBuilder" (50 : Nat) ({ cls := "java/lang/AbstractStringBuilder", name := "append", desc := "(C)Ljava/lang/AbstractStringBuilder;" } : Jvm.MethodName)) ∈ lw_all := lw_g (lw_at lw_m5 42 rfl) rfl
theorem q1194 : (Jvm.Cond.selects "java/lang/StringBuilder" ({ cls := "java/lang/AbstractStringBuilder", name := "isLatin1", desc := "()Z" } : Jvm.MethodName) ({ cls := "java/lang/AbstractStringBuilder", name := "isLatin1", desc := "()Z" } : Jvm.MethodName)) ∈ lw_all := lw_g (lw_at lw_m5 68 rfl) rfl
theorem q1463 : (Jvm.Cond.instanceMethod ({ cls := "java/lang/StringBuilder", name := "charAt", desc := "(I)C" } : Jvm.MethodName)) ∈ lw_all := lw_g (lw_at lw_m6 97 rfl) rfl
theorem q1464 : (Jvm.Cond.selects "java/lang/StringBuilder" ({ cls := "java/lang/StringBuilder", name := "charAt", desc := "(I)C" } : Jvm.MethodName) ({ cls := "java/lang/StringBuilder", name := "charAt", desc := "(I)C" } : Jvm.MethodName)) ∈ lw_all := lw_g (lw_at lw_m6 98 rfl) rfl
theorem q1465 : (Jvm.Cond.code ({ cls := "java/lang/StringBuilder", name := "charAt", desc := "(I)C" } : Jvm.MethodName) prog_37_method_88_code (2 : Nat) (Option.some Jvm.ClassFile.FieldType.char)) ∈ lw_all := lw_g (lw_at lw_m6 99 rfl) rfl
theorem q1466 : (Jvm.Cond.methodLink "java/lang/StringBuilder" (329 : Nat) ({ cls := "java/lang/AbstractStringBuilder", name := "charAt", desc := "(I)C" } : Jvm.MethodName)) ∈ lw_all := lw_g (lw_at lw_m6 100 rfl) rfl
theorem q2687 : (Jvm.Cond.castable "java/lang/StringBuilder" "java/lang/Object") ∈ lw_tbl := lw_at lw_m11 121 rfl
theorem in_J15 : ∀ w ∈ wsJ150, w ∈ lw_all := lw_in wsJ150 [1059, 1061, 1063, 1065] (by decide +kernel) (by decide +kernel)
/-! java/lang/Integer -/
set_option maxRecDepth 100000
def RJ16 : String := "java/lang/Integer"
abbrev cJ16_bitCount : ByteArray := prog_32_method_49_code
def yJ16_bitCount : MethodName := ⟨RJ16, "bitCount", "(I)I"⟩
def dkwJ16_bitCount_2 : List UInt8 := [26, 16, 63, 126, 172]
abbrev dktJ16_bitCount_2 : List UInt8 := dkwJ16_bitCount_2 ++ []
def dkwJ16_bitCount_1 : List UInt8 := [26, 26, 7, 124, 96, 19, 1, 11, 126, 59, 26, 26, 16, 8, 124, 96, 59, 26, 26, 16, 16, 124, 96, 59]
abbrev dktJ16_bitCount_1 : List UInt8 := dkwJ16_bitCount_1 ++ dktJ16_bitCount_2
def dkwJ16_bitCount_0 : List UInt8 := [26, 26, 4, 124, 19, 1, 9, 126, 100, 59, 26, 19, 1, 10, 126, 26, 5, 124, 19, 1, 10, 126, 96, 59]
abbrev dktJ16_bitCount_0 : List UInt8 := dkwJ16_bitCount_0 ++ dktJ16_bitCount_1
theorem dksJ16_bitCount_0 : cJ16_bitCount.data.toList.drop 0 = dktJ16_bitCount_0 := by decide +kernel
theorem dksJ16_bitCount_1 : cJ16_bitCount.data.toList.drop 24 = dktJ16_bitCount_1 := dk_seg dksJ16_bitCount_0 24 rfl rfl
theorem dksJ16_bitCount_2 : cJ16_bitCount.data.toList.drop 48 = dktJ16_bitCount_2 := dk_seg dksJ16_bitCount_1 24 rfl rfl
theorem dJ16_bitCount_0 : decode cJ16_bitCount 0 = .ok (.iload_n 0, 1) := dk_26 (dk_at dksJ16_bitCount_0 0 rfl rfl)
theorem dJ16_bitCount_1 : decode cJ16_bitCount 1 = .ok (.iload_n 0, 1) := dk_26 (dk_at dksJ16_bitCount_0 1 rfl rfl)
theorem dJ16_bitCount_2 : decode cJ16_bitCount 2 = .ok (.iconst 1, 1) := dk_4 (dk_at dksJ16_bitCount_0 2 rfl rfl)
theorem dJ16_bitCount_3 : decode cJ16_bitCount 3 = .ok (.iushr, 1) := dk_124 (dk_at dksJ16_bitCount_0 3 rfl rfl)
theorem dJ16_bitCount_4 : decode cJ16_bitCount 4 = .ok (.ldc_w 265, 3) := dk_19 1 9 (dk_at dksJ16_bitCount_0 4 rfl rfl)
theorem dJ16_bitCount_7 : decode cJ16_bitCount 7 = .ok (.iand, 1) := dk_126 (dk_at dksJ16_bitCount_0 7 rfl rfl)
theorem dJ16_bitCount_8 : decode cJ16_bitCount 8 = .ok (.isub, 1) := dk_100 (dk_at dksJ16_bitCount_0 8 rfl rfl)
theorem dJ16_bitCount_9 : decode cJ16_bitCount 9 = .ok (.istore_n 0, 1) := dk_59 (dk_at dksJ16_bitCount_0 9 rfl rfl)
theorem dJ16_bitCount_10 : decode cJ16_bitCount 10 = .ok (.iload_n 0, 1) := dk_26 (dk_at dksJ16_bitCount_0 10 rfl rfl)
theorem dJ16_bitCount_11 : decode cJ16_bitCount 11 = .ok (.ldc_w 266, 3) := dk_19 1 10 (dk_at dksJ16_bitCount_0 11 rfl rfl)
theorem dJ16_bitCount_14 : decode cJ16_bitCount 14 = .ok (.iand, 1) := dk_126 (dk_at dksJ16_bitCount_0 14 rfl rfl)
theorem dJ16_bitCount_15 : decode cJ16_bitCount 15 = .ok (.iload_n 0, 1) := dk_26 (dk_at dksJ16_bitCount_0 15 rfl rfl)
theorem dJ16_bitCount_16 : decode cJ16_bitCount 16 = .ok (.iconst 2, 1) := dk_5 (dk_at dksJ16_bitCount_0 16 rfl rfl)
theorem dJ16_bitCount_17 : decode cJ16_bitCount 17 = .ok (.iushr, 1) := dk_124 (dk_at dksJ16_bitCount_0 17 rfl rfl)
theorem dJ16_bitCount_18 : decode cJ16_bitCount 18 = .ok (.ldc_w 266, 3) := dk_19 1 10 (dk_at dksJ16_bitCount_0 18 rfl rfl)
theorem dJ16_bitCount_21 : decode cJ16_bitCount 21 = .ok (.iand, 1) := dk_126 (dk_at dksJ16_bitCount_0 21 rfl rfl)
theorem dJ16_bitCount_22 : decode cJ16_bitCount 22 = .ok (.iadd, 1) := dk_96 (dk_at dksJ16_bitCount_0 22 rfl rfl)
theorem dJ16_bitCount_23 : decode cJ16_bitCount 23 = .ok (.istore_n 0, 1) := dk_59 (dk_at dksJ16_bitCount_0 23 rfl rfl)
theorem dJ16_bitCount_24 : decode cJ16_bitCount 24 = .ok (.iload_n 0, 1) := dk_26 (dk_at dksJ16_bitCount_1 0 rfl rfl)
theorem dJ16_bitCount_25 : decode cJ16_bitCount 25 = .ok (.iload_n 0, 1) := dk_26 (dk_at dksJ16_bitCount_1 1 rfl rfl)
theorem dJ16_bitCount_26 : decode cJ16_bitCount 26 = .ok (.iconst 4, 1) := dk_7 (dk_at dksJ16_bitCount_1 2 rfl rfl)
theorem dJ16_bitCount_27 : decode cJ16_bitCount 27 = .ok (.iushr, 1) := dk_124 (dk_at dksJ16_bitCount_1 3 rfl rfl)
theorem dJ16_bitCount_28 : decode cJ16_bitCount 28 = .ok (.iadd, 1) := dk_96 (dk_at dksJ16_bitCount_1 4 rfl rfl)
theorem dJ16_bitCount_29 : decode cJ16_bitCount 29 = .ok (.ldc_w 267, 3) := dk_19 1 11 (dk_at dksJ16_bitCount_1 5 rfl rfl)
theorem dJ16_bitCount_32 : decode cJ16_bitCount 32 = .ok (.iand, 1) := dk_126 (dk_at dksJ16_bitCount_1 8 rfl rfl)
theorem dJ16_bitCount_33 : decode cJ16_bitCount 33 = .ok (.istore_n 0, 1) := dk_59 (dk_at dksJ16_bitCount_1 9 rfl rfl)
theorem dJ16_bitCount_34 : decode cJ16_bitCount 34 = .ok (.iload_n 0, 1) := dk_26 (dk_at dksJ16_bitCount_1 10 rfl rfl)
theorem dJ16_bitCount_35 : decode cJ16_bitCount 35 = .ok (.iload_n 0, 1) := dk_26 (dk_at dksJ16_bitCount_1 11 rfl rfl)
theorem dJ16_bitCount_36 : decode cJ16_bitCount 36 = .ok (.bipush 8, 2) := dk_16 8 (dk_at dksJ16_bitCount_1 12 rfl rfl)
theorem dJ16_bitCount_38 : decode cJ16_bitCount 38 = .ok (.iushr, 1) := dk_124 (dk_at dksJ16_bitCount_1 14 rfl rfl)
theorem dJ16_bitCount_39 : decode cJ16_bitCount 39 = .ok (.iadd, 1) := dk_96 (dk_at dksJ16_bitCount_1 15 rfl rfl)
theorem dJ16_bitCount_40 : decode cJ16_bitCount 40 = .ok (.istore_n 0, 1) := dk_59 (dk_at dksJ16_bitCount_1 16 rfl rfl)
theorem dJ16_bitCount_41 : decode cJ16_bitCount 41 = .ok (.iload_n 0, 1) := dk_26 (dk_at dksJ16_bitCount_1 17 rfl rfl)
theorem dJ16_bitCount_42 : decode cJ16_bitCount 42 = .ok (.iload_n 0, 1) := dk_26 (dk_at dksJ16_bitCount_1 18 rfl rfl)
theorem dJ16_bitCount_43 : decode cJ16_bitCount 43 = .ok (.bipush 16, 2) := dk_16 16 (dk_at dksJ16_bitCount_1 19 rfl rfl)
theorem dJ16_bitCount_45 : decode cJ16_bitCount 45 = .ok (.iushr, 1) := dk_124 (dk_at dksJ16_bitCount_1 21 rfl rfl)
theorem dJ16_bitCount_46 : decode cJ16_bitCount 46 = .ok (.iadd, 1) := dk_96 (dk_at dksJ16_bitCount_1 22 rfl rfl)
theorem dJ16_bitCount_47 : decode cJ16_bitCount 47 = .ok (.istore_n 0, 1) := dk_59 (dk_at dksJ16_bitCount_1 23 rfl rfl)
theorem dJ16_bitCount_48 : decode cJ16_bitCount 48 = .ok (.iload_n 0, 1) := dk_26 (dk_at dksJ16_bitCount_2 0 rfl rfl)
theorem dJ16_bitCount_49 : decode cJ16_bitCount 49 = .ok (.bipush 63, 2) := dk_16 63 (dk_at dksJ16_bitCount_2 1 rfl rfl)
theorem dJ16_bitCount_51 : decode cJ16_bitCount 51 = .ok (.iand, 1) := dk_126 (dk_at dksJ16_bitCount_2 3 rfl rfl)
theorem dJ16_bitCount_52 : decode cJ16_bitCount 52 = .ok (.ireturn, 1) := dk_172 (dk_at dksJ16_bitCount_2 4 rfl rfl)
theorem q206 : (Jvm.Cond.initialized "java/lang/Integer") ∈ lw_all := lw_g (lw_at lw_m1 40 rfl) rfl
theorem q1337 : (Jvm.Cond.static ({ cls := "java/lang/Integer", name := "bitCount", desc := "(I)I" } : Jvm.MethodName)) ∈ lw_all := lw_g (lw_at lw_m5 211 rfl) rfl
theorem q1338 : (Jvm.Cond.code ({ cls := "java/lang/Integer", name := "bitCount", desc := "(I)I" } : Jvm.MethodName) prog_32_method_49_code (1 : Nat) (Option.some Jvm.ClassFile.FieldType.int)) ∈ lw_all := lw_g (lw_at lw_m5 212 rfl) rfl
theorem q1339 : (Jvm.Cond.constant "java/lang/Integer" (265 : Nat) (1431655765 : Int32)) ∈ lw_all := lw_g (lw_at lw_m5 213 rfl) rfl
theorem q1340 : (Jvm.Cond.constant "java/lang/Integer" (266 : Nat) (858993459 : Int32)) ∈ lw_all := lw_g (lw_at lw_m5 214 rfl) rfl
theorem q1341 : (Jvm.Cond.constant "java/lang/Integer" (267 : Nat) (252645135 : Int32)) ∈ lw_all := lw_g (lw_at lw_m5 215 rfl) rfl
/-! java/lang/Object -/
set_option maxRecDepth 100000
def RJ17 : String := "java/lang/Object"
abbrev cJ17_init : ByteArray := object_method_1_code
def yJ17_init : MethodName := ⟨RJ17, "<init>", "()V"⟩
theorem dJ17_init_0 : decode cJ17_init 0 = .ok (.return_, 1) := by decide +kernel
theorem q214 : (Jvm.Cond.instanceMethod ({ cls := "java/lang/Object", name := "<init>", desc := "()V" } : Jvm.MethodName)) ∈ lw_all := lw_g (lw_at lw_m1 48 rfl) rfl
theorem q215 : (Jvm.Cond.code ({ cls := "java/lang/Object", name := "<init>", desc := "()V" } : Jvm.MethodName) object_method_1_code (1 : Nat) (Option.none : Option Jvm.ClassFile.FieldType)) ∈ lw_all := lw_g (lw_at lw_m1 49 rfl) rfl
theorem q880 : (Jvm.Cond.instanceMethod ({ cls := "java/lang/Object", name := "getClass", desc := "()Ljava/lang/Class;" } : Jvm.MethodName)) ∈ lw_all := lw_g (lw_at lw_m3 234 rfl) rfl
theorem q881 : (Jvm.Cond.sameMethod "java/lang/Object" "java/lang/Object" "getClass" "()Ljava/lang/Class;") ∈ lw_all := lw_g (lw_at lw_m3 235 rfl) rfl
theorem q907 : (Jvm.Cond.native ({ cls := "java/lang/Object", name := "getClass", desc := "()Ljava/lang/Class;" } : Jvm.MethodName)) ∈ lw_all := lw_g (lw_at lw_m4 21 rfl) rfl
theorem q1186 : (Jvm.Cond.native ({ cls := "java/lang/Object", name := "clone", desc := "()Ljava/lang/Object;" } : Jvm.MethodName)) ∈ lw_all := lw_g (lw_at lw_m5 60 rfl) rfl
theorem q1187 : (Jvm.Cond.instanceMethod ({ cls := "java/lang/Object", name := "clone", desc := "()Ljava/lang/Object;" } : Jvm.MethodName)) ∈ lw_all := lw_g (lw_at lw_m5 61 rfl) rfl
theorem q2700 : (Jvm.Cond.declares ({ cls := "java/lang/Object", name := "getClass", desc := "()Ljava/lang/Class;" } : Jvm.MethodName)) ∈ lw_tbl := lw_at lw_m11 134 rfl
/-! java/lang/System$2 -/
set_option maxRecDepth 100000
def RJ18 : String := "java/lang/System$2"
abbrev cJ18_getUTF16Char : ByteArray := prog_41_method_45_code
def yJ18_getUTF16Char : MethodName := ⟨RJ18, "getUTF16Char", "([BI)C"⟩
def dkwJ18_getUTF16Char_0 : List UInt8 := [43, 28, 184, 0, 185, 172]
abbrev dktJ18_getUTF16Char_0 : List UInt8 := dkwJ18_getUTF16Char_0 ++ []
theorem dksJ18_getUTF16Char_0 : cJ18_getUTF16Char.data.toList.drop 0 = dktJ18_getUTF16Char_0 := by decide +kernel
theorem dJ18_getUTF16Char_0 : decode cJ18_getUTF16Char 0 = .ok (.aload_n 1, 1) := dk_43 (dk_at dksJ18_getUTF16Char_0 0 rfl rfl)
theorem dJ18_getUTF16Char_1 : decode cJ18_getUTF16Char 1 = .ok (.iload_n 2, 1) := dk_28 (dk_at dksJ18_getUTF16Char_0 1 rfl rfl)
theorem dJ18_getUTF16Char_2 : decode cJ18_getUTF16Char 2 = .ok (.invokestatic 185, 3) := dk_184 0 185 (dk_at dksJ18_getUTF16Char_0 2 rfl rfl)
theorem dJ18_getUTF16Char_5 : decode cJ18_getUTF16Char 5 = .ok (.ireturn, 1) := dk_172 (dk_at dksJ18_getUTF16Char_0 5 rfl rfl)
theorem q758 : (Jvm.Cond.castable "java/lang/System$2" "jdk/internal/access/JavaLangAccess") ∈ lw_tbl := lw_at lw_m3 112 rfl
theorem q759 : (Jvm.Cond.selects "java/lang/System$2" ({ cls := "jdk/internal/access/JavaLangAccess", name := "getUTF16Char", desc := "([BI)C" } : Jvm.MethodName) ({ cls := "java/lang/System$2", name := "getUTF16Char", desc := "([BI)C" } : Jvm.MethodName)) ∈ lw_all := lw_g (lw_at lw_m3 113 rfl) rfl
theorem q760 : (Jvm.Cond.unhidden "java/lang/System$2" "getUTF16Char" "([BI)C") ∈ lw_tbl := lw_at lw_m3 114 rfl
theorem q761 : (Jvm.Cond.instanceMethod ({ cls := "java/lang/System$2", name := "getUTF16Char", desc := "([BI)C" } : Jvm.MethodName)) ∈ lw_all := lw_g (lw_at lw_m3 115 rfl) rfl
theorem q762 : (Jvm.Cond.publicMethod ({ cls := "java/lang/System$2", name := "getUTF16Char", desc := "([BI)C" } : Jvm.MethodName)) ∈ lw_tbl := lw_at lw_m3 116 rfl
theorem q763 : (Jvm.Cond.code ({ cls := "java/lang/System$2", name := "getUTF16Char", desc := "([BI)C" } : Jvm.MethodName) prog_41_method_45_code (3 : Nat) (Option.some Jvm.ClassFile.FieldType.char)) ∈ lw_all := lw_g (lw_at lw_m3 117 rfl) rfl
theorem q764 : (Jvm.Cond.methodLink "java/lang/System$2" (185 : Nat) ({ cls := "java/lang/StringUTF16", name := "getChar", desc := "([BI)C" } : Jvm.MethodName)) ∈ lw_all := lw_g (lw_at lw_m3 118 rfl) rfl
theorem q905 : (Jvm.Cond.selects "java/lang/System$2" ({ cls := "java/lang/Object", name := "getClass", desc := "()Ljava/lang/Class;" } : Jvm.MethodName) ({ cls := "java/lang/Object", name := "getClass", desc := "()Ljava/lang/Class;" } : Jvm.MethodName)) ∈ lw_all := lw_g (lw_at lw_m4 19 rfl) rfl
theorem q2681 : (Jvm.Cond.castable "java/lang/System$2" "java/lang/Object") ∈ lw_tbl := lw_at lw_m11 115 rfl
/-! java/util/ArrayList -/
set_option maxRecDepth 100000
def RJ2 : String := "java/util/ArrayList"
def TJ2 : u_T := fun k => match k with
  | 0 => ("java/util/AbstractList", "modCount", "I", false)
  | 1 => ("java/util/ArrayList", "elementData", "[Ljava/lang/Object;", false)
  | _ => ("java/util/ArrayList", "size", "I", false)
def tyJ2 : Nat → FieldType := fun k => match k with
  | 0 => .int
  | 1 => .array (.object "java/lang/Object")
  | _ => .int
abbrev wsJ20 : List Cond := u_ws RJ2 TJ2 3
theorem nmJ2 : ∀ a, a < 3 → ∀ b, b < 3 → a ≠ b → (TJ2 a).2.1 ≠ (TJ2 b).2.1 := by decide +kernel
theorem tyJ2_ok : ∀ k, k < 3 → parseFieldDescriptor (TJ2 k).2.2.1 = some (tyJ2 k) := by decide +kernel
abbrev cJ2_init : ByteArray := prog_47_method_1_code
def yJ2_init : MethodName := ⟨RJ2, "<init>", "(I)V"⟩
def dkwJ2_init_2 : List UInt8 := [182, 0, 25, 27, 182, 0, 29, 182, 0, 32, 183, 0, 36, 191, 177]
abbrev dktJ2_init_2 : List UInt8 := dkwJ2_init_2 ++ []
def dkwJ2_init_1 : List UInt8 := [178, 0, 15, 181, 0, 9, 167, 0, 30, 187, 0, 18, 89, 187, 0, 20, 89, 183, 0, 22, 18, 23]
abbrev dktJ2_init_1 : List UInt8 := dkwJ2_init_1 ++ dktJ2_init_2
def dkwJ2_init_0 : List UInt8 := [42, 183, 0, 1, 27, 158, 0, 14, 42, 27, 189, 0, 7, 181, 0, 9, 167, 0, 44, 27, 154, 0, 13, 42]
abbrev dktJ2_init_0 : List UInt8 := dkwJ2_init_0 ++ dktJ2_init_1
theorem dksJ2_init_0 : cJ2_init.data.toList.drop 0 = dktJ2_init_0 := by decide +kernel
theorem dksJ2_init_1 : cJ2_init.data.toList.drop 24 = dktJ2_init_1 := dk_seg dksJ2_init_0 24 rfl rfl
theorem dksJ2_init_2 : cJ2_init.data.toList.drop 46 = dktJ2_init_2 := dk_seg dksJ2_init_1 22 rfl rfl
theorem dJ2_init_0 : decode cJ2_init 0 = .ok (.aload_n 0, 1) := dk_42 (dk_at dksJ2_init_0 0 rfl rfl)
theorem dJ2_init_1 : decode cJ2_init 1 = .ok (.invokespecial 1, 3) := dk_183 0 1 (dk_at dksJ2_init_0 1 rfl rfl)
theorem dJ2_init_4 : decode cJ2_init 4 = .ok (.iload_n 1, 1) := dk_27 (dk_at dksJ2_init_0 4 rfl rfl)
theorem dJ2_init_5 : decode cJ2_init 5 = .ok (.ifCond .le 14, 3) := dk_158 0 14 (dk_at dksJ2_init_0 5 rfl rfl)
theorem dJ2_init_8 : decode cJ2_init 8 = .ok (.aload_n 0, 1) := dk_42 (dk_at dksJ2_init_0 8 rfl rfl)
theorem dJ2_init_9 : decode cJ2_init 9 = .ok (.iload_n 1, 1) := dk_27 (dk_at dksJ2_init_0 9 rfl rfl)
theorem dJ2_init_10 : decode cJ2_init 10 = .ok (.anewarray 7, 3) := dk_189 0 7 (dk_at dksJ2_init_0 10 rfl rfl)
theorem dJ2_init_13 : decode cJ2_init 13 = .ok (.putfield 9, 3) := dk_181 0 9 (dk_at dksJ2_init_0 13 rfl rfl)
theorem dJ2_init_16 : decode cJ2_init 16 = .ok (.goto 44, 3) := dk_167 0 44 (dk_at dksJ2_init_0 16 rfl rfl)
theorem dJ2_init_19 : decode cJ2_init 19 = .ok (.iload_n 1, 1) := dk_27 (dk_at dksJ2_init_0 19 rfl rfl)
theorem dJ2_init_20 : decode cJ2_init 20 = .ok (.ifCond .ne 13, 3) := dk_154 0 13 (dk_at dksJ2_init_0 20 rfl rfl)
theorem dJ2_init_23 : decode cJ2_init 23 = .ok (.aload_n 0, 1) := dk_42 (dk_at dksJ2_init_0 23 rfl rfl)
theorem dJ2_init_24 : decode cJ2_init 24 = .ok (.getstatic 15, 3) := dk_178 0 15 (dk_at dksJ2_init_1 0 rfl rfl)
theorem dJ2_init_27 : decode cJ2_init 27 = .ok (.putfield 9, 3) := dk_181 0 9 (dk_at dksJ2_init_1 3 rfl rfl)
theorem dJ2_init_30 : decode cJ2_init 30 = .ok (.goto 30, 3) := dk_167 0 30 (dk_at dksJ2_init_1 6 rfl rfl)
theorem dJ2_init_33 : decode cJ2_init 33 = .ok (.new 18, 3) := dk_187 0 18 (dk_at dksJ2_init_1 9 rfl rfl)
theorem dJ2_init_36 : decode cJ2_init 36 = .ok (.dup, 1) := dk_89 (dk_at dksJ2_init_1 12 rfl rfl)
theorem dJ2_init_37 : decode cJ2_init 37 = .ok (.new 20, 3) := dk_187 0 20 (dk_at dksJ2_init_1 13 rfl rfl)
theorem dJ2_init_40 : decode cJ2_init 40 = .ok (.dup, 1) := dk_89 (dk_at dksJ2_init_1 16 rfl rfl)
theorem dJ2_init_41 : decode cJ2_init 41 = .ok (.invokespecial 22, 3) := dk_183 0 22 (dk_at dksJ2_init_1 17 rfl rfl)
theorem dJ2_init_44 : decode cJ2_init 44 = .ok (.ldc 23, 2) := dk_18 23 (dk_at dksJ2_init_1 20 rfl rfl)
theorem dJ2_init_46 : decode cJ2_init 46 = .ok (.invokevirtual 25, 3) := dk_182 0 25 (dk_at dksJ2_init_2 0 rfl rfl)
theorem dJ2_init_49 : decode cJ2_init 49 = .ok (.iload_n 1, 1) := dk_27 (dk_at dksJ2_init_2 3 rfl rfl)
theorem dJ2_init_50 : decode cJ2_init 50 = .ok (.invokevirtual 29, 3) := dk_182 0 29 (dk_at dksJ2_init_2 4 rfl rfl)
theorem dJ2_init_53 : decode cJ2_init 53 = .ok (.invokevirtual 32, 3) := dk_182 0 32 (dk_at dksJ2_init_2 7 rfl rfl)
theorem dJ2_init_56 : decode cJ2_init 56 = .ok (.invokespecial 36, 3) := dk_183 0 36 (dk_at dksJ2_init_2 10 rfl rfl)
theorem dJ2_init_59 : decode cJ2_init 59 = .ok (.athrow, 1) := dk_191 (dk_at dksJ2_init_2 13 rfl rfl)
theorem dJ2_init_60 : decode cJ2_init 60 = .ok (.return_, 1) := dk_177 (dk_at dksJ2_init_2 14 rfl rfl)
abbrev cJ2_size : ByteArray := prog_47_method_8_code
def yJ2_size : MethodName := ⟨RJ2, "size", "()I"⟩
theorem dJ2_size_0 : decode cJ2_size 0 = .ok (.aload_n 0, 1) := by decide +kernel
theorem dJ2_size_1 : decode cJ2_size 1 = .ok (.getfield 48, 3) := by decide +kernel
theorem dJ2_size_4 : decode cJ2_size 4 = .ok (.ireturn, 1) := by decide +kernel
abbrev cJ2_get : ByteArray := prog_47_method_20_code
def yJ2_get : MethodName := ⟨RJ2, "get", "(I)Ljava/lang/Object;"⟩
def dkwJ2_get_0 : List UInt8 := [27, 42, 180, 0, 48, 184, 0, 118, 87, 42, 27, 182, 0, 123, 176]
abbrev dktJ2_get_0 : List UInt8 := dkwJ2_get_0 ++ []
theorem dksJ2_get_0 : cJ2_get.data.toList.drop 0 = dktJ2_get_0 := by decide +kernel
theorem dJ2_get_0 : decode cJ2_get 0 = .ok (.iload_n 1, 1) := dk_27 (dk_at dksJ2_get_0 0 rfl rfl)
theorem dJ2_get_1 : decode cJ2_get 1 = .ok (.aload_n 0, 1) := dk_42 (dk_at dksJ2_get_0 1 rfl rfl)
theorem dJ2_get_2 : decode cJ2_get 2 = .ok (.getfield 48, 3) := dk_180 0 48 (dk_at dksJ2_get_0 2 rfl rfl)
theorem dJ2_get_5 : decode cJ2_get 5 = .ok (.invokestatic 118, 3) := dk_184 0 118 (dk_at dksJ2_get_0 5 rfl rfl)
theorem dJ2_get_8 : decode cJ2_get 8 = .ok (.pop, 1) := dk_87 (dk_at dksJ2_get_0 8 rfl rfl)
theorem dJ2_get_9 : decode cJ2_get 9 = .ok (.aload_n 0, 1) := dk_42 (dk_at dksJ2_get_0 9 rfl rfl)
theorem dJ2_get_10 : decode cJ2_get 10 = .ok (.iload_n 1, 1) := dk_27 (dk_at dksJ2_get_0 10 rfl rfl)
theorem dJ2_get_11 : decode cJ2_get 11 = .ok (.invokevirtual 123, 3) := dk_182 0 123 (dk_at dksJ2_get_0 11 rfl rfl)
theorem dJ2_get_14 : decode cJ2_get 14 = .ok (.areturn, 1) := dk_176 (dk_at dksJ2_get_0 14 rfl rfl)
abbrev cJ2_elementData : ByteArray := prog_47_method_18_code
def yJ2_elementData : MethodName := ⟨RJ2, "elementData", "(I)Ljava/lang/Object;"⟩
def dkwJ2_elementData_0 : List UInt8 := [42, 180, 0, 9, 27, 50, 176]
abbrev dktJ2_elementData_0 : List UInt8 := dkwJ2_elementData_0 ++ []
theorem dksJ2_elementData_0 : cJ2_elementData.data.toList.drop 0 = dktJ2_elementData_0 := by decide +kernel
theorem dJ2_elementData_0 : decode cJ2_elementData 0 = .ok (.aload_n 0, 1) := dk_42 (dk_at dksJ2_elementData_0 0 rfl rfl)
theorem dJ2_elementData_1 : decode cJ2_elementData 1 = .ok (.getfield 9, 3) := dk_180 0 9 (dk_at dksJ2_elementData_0 1 rfl rfl)
theorem dJ2_elementData_4 : decode cJ2_elementData 4 = .ok (.iload_n 1, 1) := dk_27 (dk_at dksJ2_elementData_0 4 rfl rfl)
theorem dJ2_elementData_5 : decode cJ2_elementData 5 = .ok (.aaload, 1) := dk_50 (dk_at dksJ2_elementData_0 5 rfl rfl)
theorem dJ2_elementData_6 : decode cJ2_elementData 6 = .ok (.areturn, 1) := dk_176 (dk_at dksJ2_elementData_0 6 rfl rfl)
abbrev cJ2_add : ByteArray := prog_47_method_25_code
def yJ2_add : MethodName := ⟨RJ2, "add", "(Ljava/lang/Object;)Z"⟩
def dkwJ2_add_1 : List UInt8 := [172]
abbrev dktJ2_add_1 : List UInt8 := dkwJ2_add_1 ++ []
def dkwJ2_add_0 : List UInt8 := [42, 89, 180, 0, 63, 4, 96, 181, 0, 63, 42, 43, 42, 180, 0, 9, 42, 180, 0, 48, 182, 0, 131, 4]
abbrev dktJ2_add_0 : List UInt8 := dkwJ2_add_0 ++ dktJ2_add_1
theorem dksJ2_add_0 : cJ2_add.data.toList.drop 0 = dktJ2_add_0 := by decide +kernel
theorem dksJ2_add_1 : cJ2_add.data.toList.drop 24 = dktJ2_add_1 := dk_seg dksJ2_add_0 24 rfl rfl
theorem dJ2_add_0 : decode cJ2_add 0 = .ok (.aload_n 0, 1) := dk_42 (dk_at dksJ2_add_0 0 rfl rfl)
theorem dJ2_add_1 : decode cJ2_add 1 = .ok (.dup, 1) := dk_89 (dk_at dksJ2_add_0 1 rfl rfl)
theorem dJ2_add_2 : decode cJ2_add 2 = .ok (.getfield 63, 3) := dk_180 0 63 (dk_at dksJ2_add_0 2 rfl rfl)
theorem dJ2_add_5 : decode cJ2_add 5 = .ok (.iconst 1, 1) := dk_4 (dk_at dksJ2_add_0 5 rfl rfl)
theorem dJ2_add_6 : decode cJ2_add 6 = .ok (.iadd, 1) := dk_96 (dk_at dksJ2_add_0 6 rfl rfl)
theorem dJ2_add_7 : decode cJ2_add 7 = .ok (.putfield 63, 3) := dk_181 0 63 (dk_at dksJ2_add_0 7 rfl rfl)
theorem dJ2_add_10 : decode cJ2_add 10 = .ok (.aload_n 0, 1) := dk_42 (dk_at dksJ2_add_0 10 rfl rfl)
theorem dJ2_add_11 : decode cJ2_add 11 = .ok (.aload_n 1, 1) := dk_43 (dk_at dksJ2_add_0 11 rfl rfl)
theorem dJ2_add_12 : decode cJ2_add 12 = .ok (.aload_n 0, 1) := dk_42 (dk_at dksJ2_add_0 12 rfl rfl)
theorem dJ2_add_13 : decode cJ2_add 13 = .ok (.getfield 9, 3) := dk_180 0 9 (dk_at dksJ2_add_0 13 rfl rfl)
theorem dJ2_add_16 : decode cJ2_add 16 = .ok (.aload_n 0, 1) := dk_42 (dk_at dksJ2_add_0 16 rfl rfl)
theorem dJ2_add_17 : decode cJ2_add 17 = .ok (.getfield 48, 3) := dk_180 0 48 (dk_at dksJ2_add_0 17 rfl rfl)
theorem dJ2_add_20 : decode cJ2_add 20 = .ok (.invokevirtual 131, 3) := dk_182 0 131 (dk_at dksJ2_add_0 20 rfl rfl)
theorem dJ2_add_23 : decode cJ2_add 23 = .ok (.iconst 1, 1) := dk_4 (dk_at dksJ2_add_0 23 rfl rfl)
theorem dJ2_add_24 : decode cJ2_add 24 = .ok (.ireturn, 1) := dk_172 (dk_at dksJ2_add_1 0 rfl rfl)
abbrev cJ2_add_2 : ByteArray := prog_47_method_24_code
def yJ2_add_2 : MethodName := ⟨RJ2, "add", "(Ljava/lang/Object;[Ljava/lang/Object;I)V"⟩
def dkwJ2_add_2_0 : List UInt8 := [29, 44, 190, 160, 0, 8, 42, 182, 0, 129, 77, 44, 29, 43, 83, 42, 29, 4, 96, 181, 0, 48, 177]
abbrev dktJ2_add_2_0 : List UInt8 := dkwJ2_add_2_0 ++ []
theorem dksJ2_add_2_0 : cJ2_add_2.data.toList.drop 0 = dktJ2_add_2_0 := by decide +kernel
theorem dJ2_add_2_0 : decode cJ2_add_2 0 = .ok (.iload_n 3, 1) := dk_29 (dk_at dksJ2_add_2_0 0 rfl rfl)
theorem dJ2_add_2_1 : decode cJ2_add_2 1 = .ok (.aload_n 2, 1) := dk_44 (dk_at dksJ2_add_2_0 1 rfl rfl)
theorem dJ2_add_2_2 : decode cJ2_add_2 2 = .ok (.arraylength, 1) := dk_190 (dk_at dksJ2_add_2_0 2 rfl rfl)
theorem dJ2_add_2_3 : decode cJ2_add_2 3 = .ok (.if_icmp .ne 8, 3) := dk_160 0 8 (dk_at dksJ2_add_2_0 3 rfl rfl)
theorem dJ2_add_2_6 : decode cJ2_add_2 6 = .ok (.aload_n 0, 1) := dk_42 (dk_at dksJ2_add_2_0 6 rfl rfl)
theorem dJ2_add_2_7 : decode cJ2_add_2 7 = .ok (.invokevirtual 129, 3) := dk_182 0 129 (dk_at dksJ2_add_2_0 7 rfl rfl)
theorem dJ2_add_2_10 : decode cJ2_add_2 10 = .ok (.astore_n 2, 1) := dk_77 (dk_at dksJ2_add_2_0 10 rfl rfl)
theorem dJ2_add_2_11 : decode cJ2_add_2 11 = .ok (.aload_n 2, 1) := dk_44 (dk_at dksJ2_add_2_0 11 rfl rfl)
theorem dJ2_add_2_12 : decode cJ2_add_2 12 = .ok (.iload_n 3, 1) := dk_29 (dk_at dksJ2_add_2_0 12 rfl rfl)
theorem dJ2_add_2_13 : decode cJ2_add_2 13 = .ok (.aload_n 1, 1) := dk_43 (dk_at dksJ2_add_2_0 13 rfl rfl)
theorem dJ2_add_2_14 : decode cJ2_add_2 14 = .ok (.aastore, 1) := dk_83 (dk_at dksJ2_add_2_0 14 rfl rfl)
theorem dJ2_add_2_15 : decode cJ2_add_2 15 = .ok (.aload_n 0, 1) := dk_42 (dk_at dksJ2_add_2_0 15 rfl rfl)
theorem dJ2_add_2_16 : decode cJ2_add_2 16 = .ok (.iload_n 3, 1) := dk_29 (dk_at dksJ2_add_2_0 16 rfl rfl)
theorem dJ2_add_2_17 : decode cJ2_add_2 17 = .ok (.iconst 1, 1) := dk_4 (dk_at dksJ2_add_2_0 17 rfl rfl)
theorem dJ2_add_2_18 : decode cJ2_add_2 18 = .ok (.iadd, 1) := dk_96 (dk_at dksJ2_add_2_0 18 rfl rfl)
theorem dJ2_add_2_19 : decode cJ2_add_2 19 = .ok (.putfield 48, 3) := dk_181 0 48 (dk_at dksJ2_add_2_0 19 rfl rfl)
theorem dJ2_add_2_22 : decode cJ2_add_2 22 = .ok (.return_, 1) := dk_177 (dk_at dksJ2_add_2_0 22 rfl rfl)
abbrev cJ2_grow : ByteArray := prog_47_method_7_code
def yJ2_grow : MethodName := ⟨RJ2, "grow", "()[Ljava/lang/Object;"⟩
def dkwJ2_grow_0 : List UInt8 := [42, 42, 180, 0, 48, 4, 96, 182, 0, 69, 176]
abbrev dktJ2_grow_0 : List UInt8 := dkwJ2_grow_0 ++ []
theorem dksJ2_grow_0 : cJ2_grow.data.toList.drop 0 = dktJ2_grow_0 := by decide +kernel
theorem dJ2_grow_0 : decode cJ2_grow 0 = .ok (.aload_n 0, 1) := dk_42 (dk_at dksJ2_grow_0 0 rfl rfl)
theorem dJ2_grow_1 : decode cJ2_grow 1 = .ok (.aload_n 0, 1) := dk_42 (dk_at dksJ2_grow_0 1 rfl rfl)
theorem dJ2_grow_2 : decode cJ2_grow 2 = .ok (.getfield 48, 3) := dk_180 0 48 (dk_at dksJ2_grow_0 2 rfl rfl)
theorem dJ2_grow_5 : decode cJ2_grow 5 = .ok (.iconst 1, 1) := dk_4 (dk_at dksJ2_grow_0 5 rfl rfl)
theorem dJ2_grow_6 : decode cJ2_grow 6 = .ok (.iadd, 1) := dk_96 (dk_at dksJ2_grow_0 6 rfl rfl)
theorem dJ2_grow_7 : decode cJ2_grow 7 = .ok (.invokevirtual 69, 3) := dk_182 0 69 (dk_at dksJ2_grow_0 7 rfl rfl)
theorem dJ2_grow_10 : decode cJ2_grow 10 = .ok (.areturn, 1) := dk_176 (dk_at dksJ2_grow_0 10 rfl rfl)
abbrev cJ2_grow_2 : ByteArray := prog_47_method_6_code
def yJ2_grow_2 : MethodName := ⟨RJ2, "grow", "(I)[Ljava/lang/Object;"⟩
def dkwJ2_grow_2_2 : List UInt8 := [27, 184, 0, 79, 189, 0, 7, 90, 181, 0, 9, 176]
abbrev dktJ2_grow_2_2 : List UInt8 := dkwJ2_grow_2_2 ++ []
def dkwJ2_grow_2_1 : List UInt8 := [28, 4, 122, 184, 0, 73, 62, 42, 42, 180, 0, 9, 29, 184, 0, 66, 90, 181, 0, 9, 176, 42, 16, 10]
abbrev dktJ2_grow_2_1 : List UInt8 := dkwJ2_grow_2_1 ++ dktJ2_grow_2_2
def dkwJ2_grow_2_0 : List UInt8 := [42, 180, 0, 9, 190, 61, 28, 157, 0, 13, 42, 180, 0, 9, 178, 0, 39, 165, 0, 28, 28, 27, 28, 100]
abbrev dktJ2_grow_2_0 : List UInt8 := dkwJ2_grow_2_0 ++ dktJ2_grow_2_1
theorem dksJ2_grow_2_0 : cJ2_grow_2.data.toList.drop 0 = dktJ2_grow_2_0 := by decide +kernel
theorem dksJ2_grow_2_1 : cJ2_grow_2.data.toList.drop 24 = dktJ2_grow_2_1 := dk_seg dksJ2_grow_2_0 24 rfl rfl
theorem dksJ2_grow_2_2 : cJ2_grow_2.data.toList.drop 48 = dktJ2_grow_2_2 := dk_seg dksJ2_grow_2_1 24 rfl rfl
theorem dJ2_grow_2_0 : decode cJ2_grow_2 0 = .ok (.aload_n 0, 1) := dk_42 (dk_at dksJ2_grow_2_0 0 rfl rfl)
theorem dJ2_grow_2_1 : decode cJ2_grow_2 1 = .ok (.getfield 9, 3) := dk_180 0 9 (dk_at dksJ2_grow_2_0 1 rfl rfl)
theorem dJ2_grow_2_4 : decode cJ2_grow_2 4 = .ok (.arraylength, 1) := dk_190 (dk_at dksJ2_grow_2_0 4 rfl rfl)
theorem dJ2_grow_2_5 : decode cJ2_grow_2 5 = .ok (.istore_n 2, 1) := dk_61 (dk_at dksJ2_grow_2_0 5 rfl rfl)
theorem dJ2_grow_2_6 : decode cJ2_grow_2 6 = .ok (.iload_n 2, 1) := dk_28 (dk_at dksJ2_grow_2_0 6 rfl rfl)
theorem dJ2_grow_2_7 : decode cJ2_grow_2 7 = .ok (.ifCond .gt 13, 3) := dk_157 0 13 (dk_at dksJ2_grow_2_0 7 rfl rfl)
theorem dJ2_grow_2_10 : decode cJ2_grow_2 10 = .ok (.aload_n 0, 1) := dk_42 (dk_at dksJ2_grow_2_0 10 rfl rfl)
theorem dJ2_grow_2_11 : decode cJ2_grow_2 11 = .ok (.getfield 9, 3) := dk_180 0 9 (dk_at dksJ2_grow_2_0 11 rfl rfl)
theorem dJ2_grow_2_14 : decode cJ2_grow_2 14 = .ok (.getstatic 39, 3) := dk_178 0 39 (dk_at dksJ2_grow_2_0 14 rfl rfl)
theorem dJ2_grow_2_17 : decode cJ2_grow_2 17 = .ok (.if_acmp .eq 28, 3) := dk_165 0 28 (dk_at dksJ2_grow_2_0 17 rfl rfl)
theorem dJ2_grow_2_20 : decode cJ2_grow_2 20 = .ok (.iload_n 2, 1) := dk_28 (dk_at dksJ2_grow_2_0 20 rfl rfl)
theorem dJ2_grow_2_21 : decode cJ2_grow_2 21 = .ok (.iload_n 1, 1) := dk_27 (dk_at dksJ2_grow_2_0 21 rfl rfl)
theorem dJ2_grow_2_22 : decode cJ2_grow_2 22 = .ok (.iload_n 2, 1) := dk_28 (dk_at dksJ2_grow_2_0 22 rfl rfl)
theorem dJ2_grow_2_23 : decode cJ2_grow_2 23 = .ok (.isub, 1) := dk_100 (dk_at dksJ2_grow_2_0 23 rfl rfl)
theorem dJ2_grow_2_24 : decode cJ2_grow_2 24 = .ok (.iload_n 2, 1) := dk_28 (dk_at dksJ2_grow_2_1 0 rfl rfl)
theorem dJ2_grow_2_25 : decode cJ2_grow_2 25 = .ok (.iconst 1, 1) := dk_4 (dk_at dksJ2_grow_2_1 1 rfl rfl)
theorem dJ2_grow_2_26 : decode cJ2_grow_2 26 = .ok (.ishr, 1) := dk_122 (dk_at dksJ2_grow_2_1 2 rfl rfl)
theorem dJ2_grow_2_27 : decode cJ2_grow_2 27 = .ok (.invokestatic 73, 3) := dk_184 0 73 (dk_at dksJ2_grow_2_1 3 rfl rfl)
theorem dJ2_grow_2_30 : decode cJ2_grow_2 30 = .ok (.istore_n 3, 1) := dk_62 (dk_at dksJ2_grow_2_1 6 rfl rfl)
theorem dJ2_grow_2_31 : decode cJ2_grow_2 31 = .ok (.aload_n 0, 1) := dk_42 (dk_at dksJ2_grow_2_1 7 rfl rfl)
theorem dJ2_grow_2_32 : decode cJ2_grow_2 32 = .ok (.aload_n 0, 1) := dk_42 (dk_at dksJ2_grow_2_1 8 rfl rfl)
theorem dJ2_grow_2_33 : decode cJ2_grow_2 33 = .ok (.getfield 9, 3) := dk_180 0 9 (dk_at dksJ2_grow_2_1 9 rfl rfl)
theorem dJ2_grow_2_36 : decode cJ2_grow_2 36 = .ok (.iload_n 3, 1) := dk_29 (dk_at dksJ2_grow_2_1 12 rfl rfl)
theorem dJ2_grow_2_37 : decode cJ2_grow_2 37 = .ok (.invokestatic 66, 3) := dk_184 0 66 (dk_at dksJ2_grow_2_1 13 rfl rfl)
theorem dJ2_grow_2_40 : decode cJ2_grow_2 40 = .ok (.dup_x1, 1) := dk_90 (dk_at dksJ2_grow_2_1 16 rfl rfl)
theorem dJ2_grow_2_41 : decode cJ2_grow_2 41 = .ok (.putfield 9, 3) := dk_181 0 9 (dk_at dksJ2_grow_2_1 17 rfl rfl)
theorem dJ2_grow_2_44 : decode cJ2_grow_2 44 = .ok (.areturn, 1) := dk_176 (dk_at dksJ2_grow_2_1 20 rfl rfl)
theorem dJ2_grow_2_45 : decode cJ2_grow_2 45 = .ok (.aload_n 0, 1) := dk_42 (dk_at dksJ2_grow_2_1 21 rfl rfl)
theorem dJ2_grow_2_46 : decode cJ2_grow_2 46 = .ok (.bipush 10, 2) := dk_16 10 (dk_at dksJ2_grow_2_1 22 rfl rfl)
theorem dJ2_grow_2_48 : decode cJ2_grow_2 48 = .ok (.iload_n 1, 1) := dk_27 (dk_at dksJ2_grow_2_2 0 rfl rfl)
theorem dJ2_grow_2_49 : decode cJ2_grow_2 49 = .ok (.invokestatic 79, 3) := dk_184 0 79 (dk_at dksJ2_grow_2_2 1 rfl rfl)
theorem dJ2_grow_2_52 : decode cJ2_grow_2 52 = .ok (.anewarray 7, 3) := dk_189 0 7 (dk_at dksJ2_grow_2_2 4 rfl rfl)
theorem dJ2_grow_2_55 : decode cJ2_grow_2 55 = .ok (.dup_x1, 1) := dk_90 (dk_at dksJ2_grow_2_2 7 rfl rfl)
theorem dJ2_grow_2_56 : decode cJ2_grow_2 56 = .ok (.putfield 9, 3) := dk_181 0 9 (dk_at dksJ2_grow_2_2 8 rfl rfl)
theorem dJ2_grow_2_59 : decode cJ2_grow_2 59 = .ok (.areturn, 1) := dk_176 (dk_at dksJ2_grow_2_2 11 rfl rfl)
theorem q171 : (Jvm.Cond.initialized "java/util/ArrayList") ∈ lw_all := lw_g (lw_at lw_m1 5 rfl) rfl
theorem q223 : (Jvm.Cond.instantiable "java/util/ArrayList" (3 : Nat)) ∈ lw_all := lw_g (lw_at lw_m1 57 rfl) rfl
theorem q225 : (Jvm.Cond.instanceMethod ({ cls := "java/util/ArrayList", name := "<init>", desc := "(I)V" } : Jvm.MethodName)) ∈ lw_all := lw_g (lw_at lw_m1 59 rfl) rfl
theorem q226 : (Jvm.Cond.code ({ cls := "java/util/ArrayList", name := "<init>", desc := "(I)V" } : Jvm.MethodName) prog_47_method_1_code (2 : Nat) (Option.none : Option Jvm.ClassFile.FieldType)) ∈ lw_all := lw_g (lw_at lw_m1 60 rfl) rfl
theorem q227 : (Jvm.Cond.methodLink "java/util/ArrayList" (1 : Nat) ({ cls := "java/util/AbstractList", name := "<init>", desc := "()V" } : Jvm.MethodName)) ∈ lw_all := lw_g (lw_at lw_m1 61 rfl) rfl
theorem q234 : (Jvm.Cond.classLink "java/util/ArrayList" (7 : Nat) "java/lang/Object") ∈ lw_all := lw_g (lw_at lw_m1 68 rfl) rfl
theorem q236 : (Jvm.Cond.fieldLink "java/util/ArrayList" (15 : Nat) "java/util/ArrayList" "EMPTY_ELEMENTDATA" "[Ljava/lang/Object;") ∈ lw_all := lw_g (lw_at lw_m1 70 rfl) rfl
theorem q237 : (Jvm.Cond.laysStatic "java/util/ArrayList" "EMPTY_ELEMENTDATA" "[Ljava/lang/Object;") ∈ lw_tbl := lw_at lw_m1 71 rfl
theorem q238 : (Jvm.Cond.fieldLink "java/util/ArrayList" (9 : Nat) "java/util/ArrayList" "elementData" "[Ljava/lang/Object;") ∈ lw_all := lw_g (lw_at lw_m1 72 rfl) rfl
theorem q239 : (Jvm.Cond.fieldLink "java/util/ArrayList" (48 : Nat) "java/util/ArrayList" "size" "I") ∈ lw_all := lw_g (lw_at lw_m1 73 rfl) rfl
theorem q241 : (Jvm.Cond.fieldLink "java/util/ArrayList" (63 : Nat) "java/util/ArrayList" "modCount" "I") ∈ lw_all := lw_g (lw_at lw_m1 75 rfl) rfl
theorem q242 : (Jvm.Cond.sameField "java/util/ArrayList" "java/util/AbstractList" "modCount" "I") ∈ lw_all := lw_g (lw_at lw_m1 76 rfl) rfl
theorem q243 : (Jvm.Cond.lays "java/util/ArrayList" "java/util/ArrayList" "elementData" "[Ljava/lang/Object;") ∈ lw_all := lw_g (lw_at lw_m1 77 rfl) rfl
theorem q244 : (Jvm.Cond.soleField "java/util/ArrayList" "elementData") ∈ lw_all := lw_g (lw_at lw_m1 78 rfl) rfl
theorem q245 : (Jvm.Cond.lays "java/util/ArrayList" "java/util/ArrayList" "size" "I") ∈ lw_all := lw_g (lw_at lw_m1 79 rfl) rfl
theorem q246 : (Jvm.Cond.soleField "java/util/ArrayList" "size") ∈ lw_all := lw_g (lw_at lw_m1 80 rfl) rfl
theorem q247 : (Jvm.Cond.lays "java/util/ArrayList" "java/util/AbstractList" "modCount" "I") ∈ lw_all := lw_g (lw_at lw_m1 81 rfl) rfl
theorem q249 : (Jvm.Cond.superclass "java/util/ArrayList" "java/util/AbstractList") ∈ lw_all := lw_g (lw_at lw_m1 83 rfl) rfl
theorem q467 : (Jvm.Cond.castable "java/util/ArrayList" "java/util/List") ∈ lw_tbl := lw_at lw_m2 61 rfl
theorem q468 : (Jvm.Cond.selects "java/util/ArrayList" ({ cls := "java/util/List", name := "size", desc := "()I" } : Jvm.MethodName) ({ cls := "java/util/ArrayList", name := "size", desc := "()I" } : Jvm.MethodName)) ∈ lw_all := lw_g (lw_at lw_m2 62 rfl) rfl
theorem q469 : (Jvm.Cond.unhidden "java/util/ArrayList" "size" "()I") ∈ lw_tbl := lw_at lw_m2 63 rfl
theorem q470 : (Jvm.Cond.instanceMethod ({ cls := "java/util/ArrayList", name := "size", desc := "()I" } : Jvm.MethodName)) ∈ lw_all := lw_g (lw_at lw_m2 64 rfl) rfl
theorem q471 : (Jvm.Cond.publicMethod ({ cls := "java/util/ArrayList", name := "size", desc := "()I" } : Jvm.MethodName)) ∈ lw_tbl := lw_at lw_m2 65 rfl
theorem q472 : (Jvm.Cond.code ({ cls := "java/util/ArrayList", name := "size", desc := "()I" } : Jvm.MethodName) prog_47_method_8_code (1 : Nat) (Option.some Jvm.ClassFile.FieldType.int)) ∈ lw_all := lw_g (lw_at lw_m2 66 rfl) rfl
theorem q477 : (Jvm.Cond.selects "java/util/ArrayList" ({ cls := "java/util/List", name := "get", desc := "(I)Ljava/lang/Object;" } : Jvm.MethodName) ({ cls := "java/util/ArrayList", name := "get", desc := "(I)Ljava/lang/Object;" } : Jvm.MethodName)) ∈ lw_all := lw_g (lw_at lw_m2 71 rfl) rfl
theorem q478 : (Jvm.Cond.unhidden "java/util/ArrayList" "get" "(I)Ljava/lang/Object;") ∈ lw_tbl := lw_at lw_m2 72 rfl
theorem q479 : (Jvm.Cond.instanceMethod ({ cls := "java/util/ArrayList", name := "get", desc := "(I)Ljava/lang/Object;" } : Jvm.MethodName)) ∈ lw_all := lw_g (lw_at lw_m2 73 rfl) rfl
theorem q480 : (Jvm.Cond.publicMethod ({ cls := "java/util/ArrayList", name := "get", desc := "(I)Ljava/lang/Object;" } : Jvm.MethodName)) ∈ lw_tbl := lw_at lw_m2 74 rfl
theorem q481 : (Jvm.Cond.code ({ cls := "java/util/ArrayList", name := "get", desc := "(I)Ljava/lang/Object;" } : Jvm.MethodName) prog_47_method_20_code (2 : Nat) (Option.some (Jvm.ClassFile.FieldType.object "java/lang/Object"))) ∈ lw_all := lw_g (lw_at lw_m2 75 rfl) rfl
theorem q482 : (Jvm.Cond.methodLink "java/util/ArrayList" (118 : Nat) ({ cls := "java/util/Objects", name := "checkIndex", desc := "(II)I" } : Jvm.MethodName)) ∈ lw_all := lw_g (lw_at lw_m2 76 rfl) rfl
theorem q488 : (Jvm.Cond.methodLink "java/util/ArrayList" (123 : Nat) ({ cls := "java/util/ArrayList", name := "elementData", desc := "(I)Ljava/lang/Object;" } : Jvm.MethodName)) ∈ lw_all := lw_g (lw_at lw_m2 82 rfl) rfl
theorem q489 : (Jvm.Cond.instanceMethod ({ cls := "java/util/ArrayList", name := "elementData", desc := "(I)Ljava/lang/Object;" } : Jvm.MethodName)) ∈ lw_all := lw_g (lw_at lw_m2 83 rfl) rfl
theorem q490 : (Jvm.Cond.selects "java/util/ArrayList" ({ cls := "java/util/ArrayList", name := "elementData", desc := "(I)Ljava/lang/Object;" } : Jvm.MethodName) ({ cls := "java/util/ArrayList", name := "elementData", desc := "(I)Ljava/lang/Object;" } : Jvm.MethodName)) ∈ lw_all := lw_g (lw_at lw_m2 84 rfl) rfl
theorem q491 : (Jvm.Cond.code ({ cls := "java/util/ArrayList", name := "elementData", desc := "(I)Ljava/lang/Object;" } : Jvm.MethodName) prog_47_method_18_code (2 : Nat) (Option.some (Jvm.ClassFile.FieldType.object "java/lang/Object"))) ∈ lw_all := lw_g (lw_at lw_m2 85 rfl) rfl
theorem q847 : (Jvm.Cond.selects "java/util/ArrayList" ({ cls := "java/util/List", name := "add", desc := "(Ljava/lang/Object;)Z" } : Jvm.MethodName) ({ cls := "java/util/ArrayList", name := "add", desc := "(Ljava/lang/Object;)Z" } : Jvm.MethodName)) ∈ lw_all := lw_g (lw_at lw_m3 201 rfl) rfl
theorem q848 : (Jvm.Cond.unhidden "java/util/ArrayList" "add" "(Ljava/lang/Object;)Z") ∈ lw_tbl := lw_at lw_m3 202 rfl
theorem q849 : (Jvm.Cond.instanceMethod ({ cls := "java/util/ArrayList", name := "add", desc := "(Ljava/lang/Object;)Z" } : Jvm.MethodName)) ∈ lw_all := lw_g (lw_at lw_m3 203 rfl) rfl
theorem q850 : (Jvm.Cond.publicMethod ({ cls := "java/util/ArrayList", name := "add", desc := "(Ljava/lang/Object;)Z" } : Jvm.MethodName)) ∈ lw_tbl := lw_at lw_m3 204 rfl
theorem q851 : (Jvm.Cond.code ({ cls := "java/util/ArrayList", name := "add", desc := "(Ljava/lang/Object;)Z" } : Jvm.MethodName) prog_47_method_25_code (2 : Nat) (Option.some Jvm.ClassFile.FieldType.boolean)) ∈ lw_all := lw_g (lw_at lw_m3 205 rfl) rfl
theorem q852 : (Jvm.Cond.methodLink "java/util/ArrayList" (131 : Nat) ({ cls := "java/util/ArrayList", name := "add", desc := "(Ljava/lang/Object;[Ljava/lang/Object;I)V" } : Jvm.MethodName)) ∈ lw_all := lw_g (lw_at lw_m3 206 rfl) rfl
theorem q853 : (Jvm.Cond.privateMethod ({ cls := "java/util/ArrayList", name := "add", desc := "(Ljava/lang/Object;[Ljava/lang/Object;I)V" } : Jvm.MethodName)) ∈ lw_tbl := lw_at lw_m3 207 rfl
theorem q854 : (Jvm.Cond.instanceMethod ({ cls := "java/util/ArrayList", name := "add", desc := "(Ljava/lang/Object;[Ljava/lang/Object;I)V" } : Jvm.MethodName)) ∈ lw_all := lw_g (lw_at lw_m3 208 rfl) rfl
theorem q855 : (Jvm.Cond.code ({ cls := "java/util/ArrayList", name := "add", desc := "(Ljava/lang/Object;[Ljava/lang/Object;I)V" } : Jvm.MethodName) prog_47_method_24_code (4 : Nat) (Option.none : Option Jvm.ClassFile.FieldType)) ∈ lw_all := lw_g (lw_at lw_m3 209 rfl) rfl
theorem q856 : (Jvm.Cond.methodLink "java/util/ArrayList" (129 : Nat) ({ cls := "java/util/ArrayList", name := "grow", desc := "()[Ljava/lang/Object;" } : Jvm.MethodName)) ∈ lw_all := lw_g (lw_at lw_m3 210 rfl) rfl
theorem q857 : (Jvm.Cond.privateMethod ({ cls := "java/util/ArrayList", name := "grow", desc := "()[Ljava/lang/Object;" } : Jvm.MethodName)) ∈ lw_tbl := lw_at lw_m3 211 rfl
theorem q858 : (Jvm.Cond.instanceMethod ({ cls := "java/util/ArrayList", name := "grow", desc := "()[Ljava/lang/Object;" } : Jvm.MethodName)) ∈ lw_all := lw_g (lw_at lw_m3 212 rfl) rfl
theorem q859 : (Jvm.Cond.code ({ cls := "java/util/ArrayList", name := "grow", desc := "()[Ljava/lang/Object;" } : Jvm.MethodName) prog_47_method_7_code (1 : Nat) (Option.some (Jvm.ClassFile.FieldType.array (Jvm.ClassFile.FieldType.object "java/lang/Object")))) ∈ lw_all := lw_g (lw_at lw_m3 213 rfl) rfl
theorem q860 : (Jvm.Cond.methodLink "java/util/ArrayList" (69 : Nat) ({ cls := "java/util/ArrayList", name := "grow", desc := "(I)[Ljava/lang/Object;" } : Jvm.MethodName)) ∈ lw_all := lw_g (lw_at lw_m3 214 rfl) rfl
theorem q861 : (Jvm.Cond.privateMethod ({ cls := "java/util/ArrayList", name := "grow", desc := "(I)[Ljava/lang/Object;" } : Jvm.MethodName)) ∈ lw_tbl := lw_at lw_m3 215 rfl
theorem q862 : (Jvm.Cond.instanceMethod ({ cls := "java/util/ArrayList", name := "grow", desc := "(I)[Ljava/lang/Object;" } : Jvm.MethodName)) ∈ lw_all := lw_g (lw_at lw_m3 216 rfl) rfl
theorem q863 : (Jvm.Cond.code ({ cls := "java/util/ArrayList", name := "grow", desc := "(I)[Ljava/lang/Object;" } : Jvm.MethodName) prog_47_method_6_code (4 : Nat) (Option.some (Jvm.ClassFile.FieldType.array (Jvm.ClassFile.FieldType.object "java/lang/Object")))) ∈ lw_all := lw_g (lw_at lw_m3 217 rfl) rfl
theorem q864 : (Jvm.Cond.fieldLink "java/util/ArrayList" (39 : Nat) "java/util/ArrayList" "DEFAULTCAPACITY_EMPTY_ELEMENTDATA" "[Ljava/lang/Object;") ∈ lw_all := lw_g (lw_at lw_m3 218 rfl) rfl
theorem q865 : (Jvm.Cond.laysStatic "java/util/ArrayList" "DEFAULTCAPACITY_EMPTY_ELEMENTDATA" "[Ljava/lang/Object;") ∈ lw_tbl := lw_at lw_m3 219 rfl
theorem q866 : (Jvm.Cond.methodLink "java/util/ArrayList" (73 : Nat) ({ cls := "jdk/internal/util/ArraysSupport", name := "newLength", desc := "(III)I" } : Jvm.MethodName)) ∈ lw_all := lw_g (lw_at lw_m3 220 rfl) rfl
theorem q876 : (Jvm.Cond.methodLink "java/util/ArrayList" (66 : Nat) ({ cls := "java/util/Arrays", name := "copyOf", desc := "([Ljava/lang/Object;I)[Ljava/lang/Object;" } : Jvm.MethodName)) ∈ lw_all := lw_g (lw_at lw_m3 230 rfl) rfl
theorem q906 : (Jvm.Cond.selects "java/util/ArrayList" ({ cls := "java/lang/Object", name := "getClass", desc := "()Ljava/lang/Class;" } : Jvm.MethodName) ({ cls := "java/lang/Object", name := "getClass", desc := "()Ljava/lang/Class;" } : Jvm.MethodName)) ∈ lw_all := lw_g (lw_at lw_m4 20 rfl) rfl
theorem q917 : (Jvm.Cond.methodLink "java/util/ArrayList" (79 : Nat) ({ cls := "java/lang/Math", name := "max", desc := "(II)I" } : Jvm.MethodName)) ∈ lw_all := lw_g (lw_at lw_m4 31 rfl) rfl
theorem q2676 : (Jvm.Cond.castable "java/util/ArrayList" "java/lang/Object") ∈ lw_tbl := lw_at lw_m11 110 rfl
theorem in_J2 : ∀ w ∈ wsJ20, w ∈ lw_all := lw_in wsJ20 [247, 243, 245] (by decide +kernel) (by decide +kernel)
/-! java/lang/Throwable -/
set_option maxRecDepth 100000
def RJ3 : String := "java/lang/Throwable"
def TJ3 : u_T := fun k => match k with
  | 0 => ("java/lang/Throwable", "cause", "Ljava/lang/Throwable;", false)
  | 1 => ("java/lang/Throwable", "stackTrace", "[Ljava/lang/StackTraceElement;", false)
  | 2 => ("java/lang/Throwable", "suppressedExceptions", "Ljava/util/List;", false)
  | 3 => ("java/lang/Throwable", "detailMessage", "Ljava/lang/String;", false)
  | _ => ("java/lang/Throwable", "backtrace", "Ljava/lang/Object;", false)
def tyJ3 : Nat → FieldType := fun k => match k with
  | 0 => .object "java/lang/Throwable"
  | 1 => .array (.object "java/lang/StackTraceElement")
  | 2 => .object "java/util/List"
  | 3 => .object "java/lang/String"
  | _ => .object "java/lang/Object"
abbrev wsJ30 : List Cond := u_ws RJ3 TJ3 5
theorem nmJ3 : ∀ a, a < 5 → ∀ b, b < 5 → a ≠ b → (TJ3 a).2.1 ≠ (TJ3 b).2.1 := by decide +kernel
theorem tyJ3_ok : ∀ k, k < 5 → parseFieldDescriptor (TJ3 k).2.2.1 = some (tyJ3 k) := by decide +kernel
abbrev cJ3_init : ByteArray := prog_42_method_1_code
def yJ3_init : MethodName := ⟨RJ3, "<init>", "()V"⟩
def dkwJ3_init_1 : List UInt8 := [182, 0, 27, 87, 177]
abbrev dktJ3_init_1 : List UInt8 := dkwJ3_init_1 ++ []
def dkwJ3_init_0 : List UInt8 := [42, 183, 0, 1, 42, 42, 181, 0, 7, 42, 178, 0, 13, 181, 0, 17, 42, 178, 0, 20, 181, 0, 24, 42]
abbrev dktJ3_init_0 : List UInt8 := dkwJ3_init_0 ++ dktJ3_init_1
theorem dksJ3_init_0 : cJ3_init.data.toList.drop 0 = dktJ3_init_0 := by decide +kernel
theorem dksJ3_init_1 : cJ3_init.data.toList.drop 24 = dktJ3_init_1 := dk_seg dksJ3_init_0 24 rfl rfl
theorem dJ3_init_0 : decode cJ3_init 0 = .ok (.aload_n 0, 1) := dk_42 (dk_at dksJ3_init_0 0 rfl rfl)
theorem dJ3_init_1 : decode cJ3_init 1 = .ok (.invokespecial 1, 3) := dk_183 0 1 (dk_at dksJ3_init_0 1 rfl rfl)
theorem dJ3_init_4 : decode cJ3_init 4 = .ok (.aload_n 0, 1) := dk_42 (dk_at dksJ3_init_0 4 rfl rfl)
theorem dJ3_init_5 : decode cJ3_init 5 = .ok (.aload_n 0, 1) := dk_42 (dk_at dksJ3_init_0 5 rfl rfl)
theorem dJ3_init_6 : decode cJ3_init 6 = .ok (.putfield 7, 3) := dk_181 0 7 (dk_at dksJ3_init_0 6 rfl rfl)
theorem dJ3_init_9 : decode cJ3_init 9 = .ok (.aload_n 0, 1) := dk_42 (dk_at dksJ3_init_0 9 rfl rfl)
theorem dJ3_init_10 : decode cJ3_init 10 = .ok (.getstatic 13, 3) := dk_178 0 13 (dk_at dksJ3_init_0 10 rfl rfl)
theorem dJ3_init_13 : decode cJ3_init 13 = .ok (.putfield 17, 3) := dk_181 0 17 (dk_at dksJ3_init_0 13 rfl rfl)
theorem dJ3_init_16 : decode cJ3_init 16 = .ok (.aload_n 0, 1) := dk_42 (dk_at dksJ3_init_0 16 rfl rfl)
theorem dJ3_init_17 : decode cJ3_init 17 = .ok (.getstatic 20, 3) := dk_178 0 20 (dk_at dksJ3_init_0 17 rfl rfl)
theorem dJ3_init_20 : decode cJ3_init 20 = .ok (.putfield 24, 3) := dk_181 0 24 (dk_at dksJ3_init_0 20 rfl rfl)
theorem dJ3_init_23 : decode cJ3_init 23 = .ok (.aload_n 0, 1) := dk_42 (dk_at dksJ3_init_0 23 rfl rfl)
theorem dJ3_init_24 : decode cJ3_init 24 = .ok (.invokevirtual 27, 3) := dk_182 0 27 (dk_at dksJ3_init_1 0 rfl rfl)
theorem dJ3_init_27 : decode cJ3_init 27 = .ok (.pop, 1) := dk_87 (dk_at dksJ3_init_1 3 rfl rfl)
theorem dJ3_init_28 : decode cJ3_init 28 = .ok (.return_, 1) := dk_177 (dk_at dksJ3_init_1 4 rfl rfl)
abbrev cJ3_init_2 : ByteArray := prog_42_method_5_code
def yJ3_init_2 : MethodName := ⟨RJ3, "<init>", "(Ljava/lang/String;Ljava/lang/Throwable;ZZ)V"⟩
def dkwJ3_init_2_2 : List UInt8 := [44, 181, 0, 7, 29, 154, 0, 8, 42, 1, 181, 0, 24, 177]
abbrev dktJ3_init_2_2 : List UInt8 := dkwJ3_init_2_2 ++ []
def dkwJ3_init_2_1 : List UInt8 := [21, 4, 153, 0, 11, 42, 182, 0, 27, 87, 167, 0, 8, 42, 1, 181, 0, 17, 42, 43, 181, 0, 31, 42]
abbrev dktJ3_init_2_1 : List UInt8 := dkwJ3_init_2_1 ++ dktJ3_init_2_2
def dkwJ3_init_2_0 : List UInt8 := [42, 183, 0, 1, 42, 42, 181, 0, 7, 42, 178, 0, 13, 181, 0, 17, 42, 178, 0, 20, 181, 0, 24]
abbrev dktJ3_init_2_0 : List UInt8 := dkwJ3_init_2_0 ++ dktJ3_init_2_1
theorem dksJ3_init_2_0 : cJ3_init_2.data.toList.drop 0 = dktJ3_init_2_0 := by decide +kernel
theorem dksJ3_init_2_1 : cJ3_init_2.data.toList.drop 23 = dktJ3_init_2_1 := dk_seg dksJ3_init_2_0 23 rfl rfl
theorem dksJ3_init_2_2 : cJ3_init_2.data.toList.drop 47 = dktJ3_init_2_2 := dk_seg dksJ3_init_2_1 24 rfl rfl
theorem dJ3_init_2_0 : decode cJ3_init_2 0 = .ok (.aload_n 0, 1) := dk_42 (dk_at dksJ3_init_2_0 0 rfl rfl)
theorem dJ3_init_2_1 : decode cJ3_init_2 1 = .ok (.invokespecial 1, 3) := dk_183 0 1 (dk_at dksJ3_init_2_0 1 rfl rfl)
theorem dJ3_init_2_4 : decode cJ3_init_2 4 = .ok (.aload_n 0, 1) := dk_42 (dk_at dksJ3_init_2_0 4 rfl rfl)
theorem dJ3_init_2_5 : decode cJ3_init_2 5 = .ok (.aload_n 0, 1) := dk_42 (dk_at dksJ3_init_2_0 5 rfl rfl)
theorem dJ3_init_2_6 : decode cJ3_init_2 6 = .ok (.putfield 7, 3) := dk_181 0 7 (dk_at dksJ3_init_2_0 6 rfl rfl)
theorem dJ3_init_2_9 : decode cJ3_init_2 9 = .ok (.aload_n 0, 1) := dk_42 (dk_at dksJ3_init_2_0 9 rfl rfl)
theorem dJ3_init_2_10 : decode cJ3_init_2 10 = .ok (.getstatic 13, 3) := dk_178 0 13 (dk_at dksJ3_init_2_0 10 rfl rfl)
theorem dJ3_init_2_13 : decode cJ3_init_2 13 = .ok (.putfield 17, 3) := dk_181 0 17 (dk_at dksJ3_init_2_0 13 rfl rfl)
theorem dJ3_init_2_16 : decode cJ3_init_2 16 = .ok (.aload_n 0, 1) := dk_42 (dk_at dksJ3_init_2_0 16 rfl rfl)
theorem dJ3_init_2_17 : decode cJ3_init_2 17 = .ok (.getstatic 20, 3) := dk_178 0 20 (dk_at dksJ3_init_2_0 17 rfl rfl)
theorem dJ3_init_2_20 : decode cJ3_init_2 20 = .ok (.putfield 24, 3) := dk_181 0 24 (dk_at dksJ3_init_2_0 20 rfl rfl)
theorem dJ3_init_2_23 : decode cJ3_init_2 23 = .ok (.iload 4, 2) := dk_21 4 (dk_at dksJ3_init_2_1 0 rfl rfl)
theorem dJ3_init_2_25 : decode cJ3_init_2 25 = .ok (.ifCond .eq 11, 3) := dk_153 0 11 (dk_at dksJ3_init_2_1 2 rfl rfl)
theorem dJ3_init_2_28 : decode cJ3_init_2 28 = .ok (.aload_n 0, 1) := dk_42 (dk_at dksJ3_init_2_1 5 rfl rfl)
theorem dJ3_init_2_29 : decode cJ3_init_2 29 = .ok (.invokevirtual 27, 3) := dk_182 0 27 (dk_at dksJ3_init_2_1 6 rfl rfl)
theorem dJ3_init_2_32 : decode cJ3_init_2 32 = .ok (.pop, 1) := dk_87 (dk_at dksJ3_init_2_1 9 rfl rfl)
theorem dJ3_init_2_33 : decode cJ3_init_2 33 = .ok (.goto 8, 3) := dk_167 0 8 (dk_at dksJ3_init_2_1 10 rfl rfl)
theorem dJ3_init_2_36 : decode cJ3_init_2 36 = .ok (.aload_n 0, 1) := dk_42 (dk_at dksJ3_init_2_1 13 rfl rfl)
theorem dJ3_init_2_37 : decode cJ3_init_2 37 = .ok (.aconst_null, 1) := dk_1 (dk_at dksJ3_init_2_1 14 rfl rfl)
theorem dJ3_init_2_38 : decode cJ3_init_2 38 = .ok (.putfield 17, 3) := dk_181 0 17 (dk_at dksJ3_init_2_1 15 rfl rfl)
theorem dJ3_init_2_41 : decode cJ3_init_2 41 = .ok (.aload_n 0, 1) := dk_42 (dk_at dksJ3_init_2_1 18 rfl rfl)
theorem dJ3_init_2_42 : decode cJ3_init_2 42 = .ok (.aload_n 1, 1) := dk_43 (dk_at dksJ3_init_2_1 19 rfl rfl)
theorem dJ3_init_2_43 : decode cJ3_init_2 43 = .ok (.putfield 31, 3) := dk_181 0 31 (dk_at dksJ3_init_2_1 20 rfl rfl)
theorem dJ3_init_2_46 : decode cJ3_init_2 46 = .ok (.aload_n 0, 1) := dk_42 (dk_at dksJ3_init_2_1 23 rfl rfl)
theorem dJ3_init_2_47 : decode cJ3_init_2 47 = .ok (.aload_n 2, 1) := dk_44 (dk_at dksJ3_init_2_2 0 rfl rfl)
theorem dJ3_init_2_48 : decode cJ3_init_2 48 = .ok (.putfield 7, 3) := dk_181 0 7 (dk_at dksJ3_init_2_2 1 rfl rfl)
theorem dJ3_init_2_51 : decode cJ3_init_2 51 = .ok (.iload_n 3, 1) := dk_29 (dk_at dksJ3_init_2_2 4 rfl rfl)
theorem dJ3_init_2_52 : decode cJ3_init_2 52 = .ok (.ifCond .ne 8, 3) := dk_154 0 8 (dk_at dksJ3_init_2_2 5 rfl rfl)
theorem dJ3_init_2_55 : decode cJ3_init_2 55 = .ok (.aload_n 0, 1) := dk_42 (dk_at dksJ3_init_2_2 8 rfl rfl)
theorem dJ3_init_2_56 : decode cJ3_init_2 56 = .ok (.aconst_null, 1) := dk_1 (dk_at dksJ3_init_2_2 9 rfl rfl)
theorem dJ3_init_2_57 : decode cJ3_init_2 57 = .ok (.putfield 24, 3) := dk_181 0 24 (dk_at dksJ3_init_2_2 10 rfl rfl)
theorem dJ3_init_2_60 : decode cJ3_init_2 60 = .ok (.return_, 1) := dk_177 (dk_at dksJ3_init_2_2 13 rfl rfl)
theorem q173 : (Jvm.Cond.initialized "java/lang/Throwable") ∈ lw_all := lw_g (lw_at lw_m1 7 rfl) rfl
theorem q304 : (Jvm.Cond.declares ({ cls := "java/lang/Throwable", name := "<init>", desc := "()V" } : Jvm.MethodName)) ∈ lw_tbl := lw_at lw_m1 138 rfl
theorem q305 : (Jvm.Cond.declares ({ cls := "java/lang/Throwable", name := "<init>", desc := "(Ljava/lang/String;)V" } : Jvm.MethodName)) ∈ lw_tbl := lw_at lw_m1 139 rfl
theorem q309 : (Jvm.Cond.lays "java/lang/Throwable" "java/lang/Throwable" "cause" "Ljava/lang/Throwable;") ∈ lw_all := lw_g (lw_at lw_m1 143 rfl) rfl
theorem q311 : (Jvm.Cond.lays "java/lang/Throwable" "java/lang/Throwable" "stackTrace" "[Ljava/lang/StackTraceElement;") ∈ lw_all := lw_g (lw_at lw_m1 145 rfl) rfl
theorem q313 : (Jvm.Cond.lays "java/lang/Throwable" "java/lang/Throwable" "suppressedExceptions" "Ljava/util/List;") ∈ lw_all := lw_g (lw_at lw_m1 147 rfl) rfl
theorem q315 : (Jvm.Cond.lays "java/lang/Throwable" "java/lang/Throwable" "detailMessage" "Ljava/lang/String;") ∈ lw_all := lw_g (lw_at lw_m1 149 rfl) rfl
theorem q317 : (Jvm.Cond.lays "java/lang/Throwable" "java/lang/Throwable" "backtrace" "Ljava/lang/Object;") ∈ lw_all := lw_g (lw_at lw_m1 151 rfl) rfl
theorem q318 : (Jvm.Cond.fieldLink "java/lang/Throwable" (198 : Nat) "java/lang/Throwable" "backtrace" "Ljava/lang/Object;") ∈ lw_all := lw_g (lw_at lw_m1 152 rfl) rfl
theorem q319 : (Jvm.Cond.superclass "java/lang/Throwable" "java/lang/Object") ∈ lw_all := lw_g (lw_at lw_m1 153 rfl) rfl
theorem q320 : (Jvm.Cond.instanceMethod ({ cls := "java/lang/Throwable", name := "<init>", desc := "()V" } : Jvm.MethodName)) ∈ lw_all := lw_g (lw_at lw_m1 154 rfl) rfl
theorem q321 : (Jvm.Cond.code ({ cls := "java/lang/Throwable", name := "<init>", desc := "()V" } : Jvm.MethodName) prog_42_method_1_code (1 : Nat) (Option.none : Option Jvm.ClassFile.FieldType)) ∈ lw_all := lw_g (lw_at lw_m1 155 rfl) rfl
theorem q322 : (Jvm.Cond.methodLink "java/lang/Throwable" (1 : Nat) ({ cls := "java/lang/Object", name := "<init>", desc := "()V" } : Jvm.MethodName)) ∈ lw_all := lw_g (lw_at lw_m1 156 rfl) rfl
theorem q323 : (Jvm.Cond.fieldLink "java/lang/Throwable" (13 : Nat) "java/lang/Throwable" "UNASSIGNED_STACK" "[Ljava/lang/StackTraceElement;") ∈ lw_all := lw_g (lw_at lw_m1 157 rfl) rfl
theorem q324 : (Jvm.Cond.laysStatic "java/lang/Throwable" "UNASSIGNED_STACK" "[Ljava/lang/StackTraceElement;") ∈ lw_tbl := lw_at lw_m1 158 rfl
theorem q325 : (Jvm.Cond.fieldLink "java/lang/Throwable" (20 : Nat) "java/lang/Throwable" "SUPPRESSED_SENTINEL" "Ljava/util/List;") ∈ lw_all := lw_g (lw_at lw_m1 159 rfl) rfl
theorem q326 : (Jvm.Cond.laysStatic "java/lang/Throwable" "SUPPRESSED_SENTINEL" "Ljava/util/List;") ∈ lw_tbl := lw_at lw_m1 160 rfl
theorem q327 : (Jvm.Cond.methodLink "java/lang/Throwable" (27 : Nat) ({ cls := "java/lang/Throwable", name := "fillInStackTrace", desc := "()Ljava/lang/Throwable;" } : Jvm.MethodName)) ∈ lw_all := lw_g (lw_at lw_m1 161 rfl) rfl
theorem q328 : (Jvm.Cond.instanceMethod ({ cls := "java/lang/Throwable", name := "fillInStackTrace", desc := "()Ljava/lang/Throwable;" } : Jvm.MethodName)) ∈ lw_all := lw_g (lw_at lw_m1 162 rfl) rfl
theorem q329 : (Jvm.Cond.sameMethod "java/lang/Throwable" "java/lang/Throwable" "fillInStackTrace" "()Ljava/lang/Throwable;") ∈ lw_all := lw_g (lw_at lw_m1 163 rfl) rfl
theorem q330 : (Jvm.Cond.codeSync ({ cls := "java/lang/Throwable", name := "fillInStackTrace", desc := "()Ljava/lang/Throwable;" } : Jvm.MethodName) prog_42_method_18_code (1 : Nat) (Option.some (Jvm.ClassFile.FieldType.object "java/lang/Throwable"))) ∈ lw_all := lw_g (lw_at lw_m1 164 rfl) rfl
theorem q331 : (Jvm.Cond.methodLink "java/lang/Throwable" (202 : Nat) ({ cls := "java/lang/Throwable", name := "fillInStackTrace", desc := "(I)Ljava/lang/Throwable;" } : Jvm.MethodName)) ∈ lw_all := lw_g (lw_at lw_m1 165 rfl) rfl
theorem q332 : (Jvm.Cond.privateMethod ({ cls := "java/lang/Throwable", name := "fillInStackTrace", desc := "(I)Ljava/lang/Throwable;" } : Jvm.MethodName)) ∈ lw_tbl := lw_at lw_m1 166 rfl
theorem q333 : (Jvm.Cond.instanceMethod ({ cls := "java/lang/Throwable", name := "fillInStackTrace", desc := "(I)Ljava/lang/Throwable;" } : Jvm.MethodName)) ∈ lw_all := lw_g (lw_at lw_m1 167 rfl) rfl
theorem q334 : (Jvm.Cond.instantiable "java/lang/Throwable" (6 : Nat)) ∈ lw_all := lw_g (lw_at lw_m1 168 rfl) rfl
theorem q335 : (Jvm.Cond.native ({ cls := "java/lang/Throwable", name := "fillInStackTrace", desc := "(I)Ljava/lang/Throwable;" } : Jvm.MethodName)) ∈ lw_all := lw_g (lw_at lw_m1 169 rfl) rfl
theorem q346 : (Jvm.Cond.instanceMethod ({ cls := "java/lang/Throwable", name := "<init>", desc := "(Ljava/lang/String;Ljava/lang/Throwable;ZZ)V" } : Jvm.MethodName)) ∈ lw_all := lw_g (lw_at lw_m1 180 rfl) rfl
theorem q347 : (Jvm.Cond.code ({ cls := "java/lang/Throwable", name := "<init>", desc := "(Ljava/lang/String;Ljava/lang/Throwable;ZZ)V" } : Jvm.MethodName) prog_42_method_5_code (5 : Nat) (Option.none : Option Jvm.ClassFile.FieldType)) ∈ lw_all := lw_g (lw_at lw_m1 181 rfl) rfl
theorem q352 : (Jvm.Cond.fieldLink "java/lang/Throwable" (198 : Nat) "java/lang/Throwable" "backtrace" "Ljava/lang/Object;") ∈ lw_all := lw_g (lw_at lw_m1 186 rfl) rfl
theorem q353 : (Jvm.Cond.fieldLink "java/lang/Throwable" (31 : Nat) "java/lang/Throwable" "detailMessage" "Ljava/lang/String;") ∈ lw_all := lw_g (lw_at lw_m1 187 rfl) rfl
theorem q354 : (Jvm.Cond.fieldLink "java/lang/Throwable" (7 : Nat) "java/lang/Throwable" "cause" "Ljava/lang/Throwable;") ∈ lw_all := lw_g (lw_at lw_m1 188 rfl) rfl
theorem q355 : (Jvm.Cond.fieldLink "java/lang/Throwable" (17 : Nat) "java/lang/Throwable" "stackTrace" "[Ljava/lang/StackTraceElement;") ∈ lw_all := lw_g (lw_at lw_m1 189 rfl) rfl
theorem q356 : (Jvm.Cond.fieldLink "java/lang/Throwable" (24 : Nat) "java/lang/Throwable" "suppressedExceptions" "Ljava/util/List;") ∈ lw_all := lw_g (lw_at lw_m1 190 rfl) rfl
theorem q361 : (Jvm.Cond.soleField "java/lang/Throwable" "backtrace") ∈ lw_all := lw_g (lw_at lw_m1 195 rfl) rfl
theorem q362 : (Jvm.Cond.soleField "java/lang/Throwable" "detailMessage") ∈ lw_all := lw_g (lw_at lw_m1 196 rfl) rfl
theorem q363 : (Jvm.Cond.soleField "java/lang/Throwable" "cause") ∈ lw_all := lw_g (lw_at lw_m1 197 rfl) rfl
theorem q364 : (Jvm.Cond.soleField "java/lang/Throwable" "stackTrace") ∈ lw_all := lw_g (lw_at lw_m1 198 rfl) rfl
theorem q366 : (Jvm.Cond.soleField "java/lang/Throwable" "depth") ∈ lw_all := lw_g (lw_at lw_m1 200 rfl) rfl
theorem q367 : (Jvm.Cond.soleField "java/lang/Throwable" "suppressedExceptions") ∈ lw_all := lw_g (lw_at lw_m1 201 rfl) rfl
theorem q2656 : (Jvm.Cond.sameMethod "java/lang/Throwable" "java/lang/Throwable" "fillInStackTrace" "(I)Ljava/lang/Throwable;") ∈ lw_all := lw_g (lw_at lw_m11 90 rfl) rfl
theorem q2697 : (Jvm.Cond.castable "java/lang/Throwable" "java/lang/Object") ∈ lw_tbl := lw_at lw_m11 131 rfl
theorem in_J3 : ∀ w ∈ wsJ30, w ∈ lw_all := lw_in wsJ30 [309, 311, 313, 315, 317] (by decide +kernel) (by decide +kernel)
/-! java/lang/Exception -/
set_option maxRecDepth 100000
def RJ4 : String := "java/lang/Exception"
abbrev cJ4_init : ByteArray := prog_31_method_5_code
def yJ4_init : MethodName := ⟨RJ4, "<init>", "(Ljava/lang/String;Ljava/lang/Throwable;ZZ)V"⟩
def dkwJ4_init_0 : List UInt8 := [42, 43, 44, 29, 21, 4, 183, 0, 16, 177]
abbrev dktJ4_init_0 : List UInt8 := dkwJ4_init_0 ++ []
theorem dksJ4_init_0 : cJ4_init.data.toList.drop 0 = dktJ4_init_0 := by decide +kernel
theorem dJ4_init_0 : decode cJ4_init 0 = .ok (.aload_n 0, 1) := dk_42 (dk_at dksJ4_init_0 0 rfl rfl)
theorem dJ4_init_1 : decode cJ4_init 1 = .ok (.aload_n 1, 1) := dk_43 (dk_at dksJ4_init_0 1 rfl rfl)
theorem dJ4_init_2 : decode cJ4_init 2 = .ok (.aload_n 2, 1) := dk_44 (dk_at dksJ4_init_0 2 rfl rfl)
theorem dJ4_init_3 : decode cJ4_init 3 = .ok (.iload_n 3, 1) := dk_29 (dk_at dksJ4_init_0 3 rfl rfl)
theorem dJ4_init_4 : decode cJ4_init 4 = .ok (.iload 4, 2) := dk_21 4 (dk_at dksJ4_init_0 4 rfl rfl)
theorem dJ4_init_6 : decode cJ4_init 6 = .ok (.invokespecial 16, 3) := dk_183 0 16 (dk_at dksJ4_init_0 6 rfl rfl)
theorem dJ4_init_9 : decode cJ4_init 9 = .ok (.return_, 1) := dk_177 (dk_at dksJ4_init_0 9 rfl rfl)
theorem q174 : (Jvm.Cond.initialized "java/lang/Exception") ∈ lw_all := lw_g (lw_at lw_m1 8 rfl) rfl
theorem q302 : (Jvm.Cond.declares ({ cls := "java/lang/Exception", name := "<init>", desc := "()V" } : Jvm.MethodName)) ∈ lw_tbl := lw_at lw_m1 136 rfl
theorem q303 : (Jvm.Cond.declares ({ cls := "java/lang/Exception", name := "<init>", desc := "(Ljava/lang/String;)V" } : Jvm.MethodName)) ∈ lw_tbl := lw_at lw_m1 137 rfl
theorem q343 : (Jvm.Cond.instanceMethod ({ cls := "java/lang/Exception", name := "<init>", desc := "(Ljava/lang/String;Ljava/lang/Throwable;ZZ)V" } : Jvm.MethodName)) ∈ lw_all := lw_g (lw_at lw_m1 177 rfl) rfl
theorem q344 : (Jvm.Cond.code ({ cls := "java/lang/Exception", name := "<init>", desc := "(Ljava/lang/String;Ljava/lang/Throwable;ZZ)V" } : Jvm.MethodName) prog_31_method_5_code (5 : Nat) (Option.none : Option Jvm.ClassFile.FieldType)) ∈ lw_all := lw_g (lw_at lw_m1 178 rfl) rfl
theorem q345 : (Jvm.Cond.methodLink "java/lang/Exception" (16 : Nat) ({ cls := "java/lang/Throwable", name := "<init>", desc := "(Ljava/lang/String;Ljava/lang/Throwable;ZZ)V" } : Jvm.MethodName)) ∈ lw_all := lw_g (lw_at lw_m1 179 rfl) rfl
/-! java/lang/RuntimeException -/
set_option maxRecDepth 100000
def RJ5 : String := "java/lang/RuntimeException"
abbrev cJ5_init : ByteArray := prog_35_method_5_code
def yJ5_init : MethodName := ⟨RJ5, "<init>", "(Ljava/lang/String;Ljava/lang/Throwable;ZZ)V"⟩
def dkwJ5_init_0 : List UInt8 := [42, 43, 44, 29, 21, 4, 183, 0, 16, 177]
abbrev dktJ5_init_0 : List UInt8 := dkwJ5_init_0 ++ []
theorem dksJ5_init_0 : cJ5_init.data.toList.drop 0 = dktJ5_init_0 := by decide +kernel
theorem dJ5_init_0 : decode cJ5_init 0 = .ok (.aload_n 0, 1) := dk_42 (dk_at dksJ5_init_0 0 rfl rfl)
theorem dJ5_init_1 : decode cJ5_init 1 = .ok (.aload_n 1, 1) := dk_43 (dk_at dksJ5_init_0 1 rfl rfl)
theorem dJ5_init_2 : decode cJ5_init 2 = .ok (.aload_n 2, 1) := dk_44 (dk_at dksJ5_init_0 2 rfl rfl)
theorem dJ5_init_3 : decode cJ5_init 3 = .ok (.iload_n 3, 1) := dk_29 (dk_at dksJ5_init_0 3 rfl rfl)
theorem dJ5_init_4 : decode cJ5_init 4 = .ok (.iload 4, 2) := dk_21 4 (dk_at dksJ5_init_0 4 rfl rfl)
theorem dJ5_init_6 : decode cJ5_init 6 = .ok (.invokespecial 16, 3) := dk_183 0 16 (dk_at dksJ5_init_0 6 rfl rfl)
theorem dJ5_init_9 : decode cJ5_init 9 = .ok (.return_, 1) := dk_177 (dk_at dksJ5_init_0 9 rfl rfl)
theorem q175 : (Jvm.Cond.initialized "java/lang/RuntimeException") ∈ lw_all := lw_g (lw_at lw_m1 9 rfl) rfl
theorem q300 : (Jvm.Cond.declares ({ cls := "java/lang/RuntimeException", name := "<init>", desc := "()V" } : Jvm.MethodName)) ∈ lw_tbl := lw_at lw_m1 134 rfl
theorem q301 : (Jvm.Cond.declares ({ cls := "java/lang/RuntimeException", name := "<init>", desc := "(Ljava/lang/String;)V" } : Jvm.MethodName)) ∈ lw_tbl := lw_at lw_m1 135 rfl
theorem q340 : (Jvm.Cond.instanceMethod ({ cls := "java/lang/RuntimeException", name := "<init>", desc := "(Ljava/lang/String;Ljava/lang/Throwable;ZZ)V" } : Jvm.MethodName)) ∈ lw_all := lw_g (lw_at lw_m1 174 rfl) rfl
theorem q341 : (Jvm.Cond.code ({ cls := "java/lang/RuntimeException", name := "<init>", desc := "(Ljava/lang/String;Ljava/lang/Throwable;ZZ)V" } : Jvm.MethodName) prog_35_method_5_code (5 : Nat) (Option.none : Option Jvm.ClassFile.FieldType)) ∈ lw_all := lw_g (lw_at lw_m1 175 rfl) rfl
theorem q342 : (Jvm.Cond.methodLink "java/lang/RuntimeException" (16 : Nat) ({ cls := "java/lang/Exception", name := "<init>", desc := "(Ljava/lang/String;Ljava/lang/Throwable;ZZ)V" } : Jvm.MethodName)) ∈ lw_all := lw_g (lw_at lw_m1 176 rfl) rfl
/-! java/util/Objects -/
set_option maxRecDepth 100000
def RJ6 : String := "java/util/Objects"
abbrev cJ6_checkIndex : ByteArray := prog_51_method_17_code
def yJ6_checkIndex : MethodName := ⟨RJ6, "checkIndex", "(II)I"⟩
def dkwJ6_checkIndex_0 : List UInt8 := [26, 27, 1, 184, 0, 105, 172]
abbrev dktJ6_checkIndex_0 : List UInt8 := dkwJ6_checkIndex_0 ++ []
theorem dksJ6_checkIndex_0 : cJ6_checkIndex.data.toList.drop 0 = dktJ6_checkIndex_0 := by decide +kernel
theorem dJ6_checkIndex_0 : decode cJ6_checkIndex 0 = .ok (.iload_n 0, 1) := dk_26 (dk_at dksJ6_checkIndex_0 0 rfl rfl)
theorem dJ6_checkIndex_1 : decode cJ6_checkIndex 1 = .ok (.iload_n 1, 1) := dk_27 (dk_at dksJ6_checkIndex_0 1 rfl rfl)
theorem dJ6_checkIndex_2 : decode cJ6_checkIndex 2 = .ok (.aconst_null, 1) := dk_1 (dk_at dksJ6_checkIndex_0 2 rfl rfl)
theorem dJ6_checkIndex_3 : decode cJ6_checkIndex 3 = .ok (.invokestatic 105, 3) := dk_184 0 105 (dk_at dksJ6_checkIndex_0 3 rfl rfl)
theorem dJ6_checkIndex_6 : decode cJ6_checkIndex 6 = .ok (.ireturn, 1) := dk_172 (dk_at dksJ6_checkIndex_0 6 rfl rfl)
theorem q179 : (Jvm.Cond.initialized "java/util/Objects") ∈ lw_all := lw_g (lw_at lw_m1 13 rfl) rfl
theorem q483 : (Jvm.Cond.static ({ cls := "java/util/Objects", name := "checkIndex", desc := "(II)I" } : Jvm.MethodName)) ∈ lw_all := lw_g (lw_at lw_m2 77 rfl) rfl
theorem q484 : (Jvm.Cond.code ({ cls := "java/util/Objects", name := "checkIndex", desc := "(II)I" } : Jvm.MethodName) prog_51_method_17_code (2 : Nat) (Option.some Jvm.ClassFile.FieldType.int)) ∈ lw_all := lw_g (lw_at lw_m2 78 rfl) rfl
theorem q485 : (Jvm.Cond.methodLink "java/util/Objects" (105 : Nat) ({ cls := "jdk/internal/util/Preconditions", name := "checkIndex", desc := "(IILjava/util/function/BiFunction;)I" } : Jvm.MethodName)) ∈ lw_all := lw_g (lw_at lw_m2 79 rfl) rfl
/-! jdk/internal/util/Preconditions -/
set_option maxRecDepth 100000
def RJ7 : String := "jdk/internal/util/Preconditions"
abbrev cJ7_checkIndex : ByteArray := prog_56_method_11_code
def yJ7_checkIndex : MethodName := ⟨RJ7, "checkIndex", "(IILjava/util/function/BiFunction;)I"⟩
def dkwJ7_checkIndex_0 : List UInt8 := [26, 155, 0, 8, 26, 27, 161, 0, 10, 44, 26, 27, 184, 0, 95, 191, 26, 172]
abbrev dktJ7_checkIndex_0 : List UInt8 := dkwJ7_checkIndex_0 ++ []
theorem dksJ7_checkIndex_0 : cJ7_checkIndex.data.toList.drop 0 = dktJ7_checkIndex_0 := by decide +kernel
theorem dJ7_checkIndex_0 : decode cJ7_checkIndex 0 = .ok (.iload_n 0, 1) := dk_26 (dk_at dksJ7_checkIndex_0 0 rfl rfl)
theorem dJ7_checkIndex_1 : decode cJ7_checkIndex 1 = .ok (.ifCond .lt 8, 3) := dk_155 0 8 (dk_at dksJ7_checkIndex_0 1 rfl rfl)
theorem dJ7_checkIndex_4 : decode cJ7_checkIndex 4 = .ok (.iload_n 0, 1) := dk_26 (dk_at dksJ7_checkIndex_0 4 rfl rfl)
theorem dJ7_checkIndex_5 : decode cJ7_checkIndex 5 = .ok (.iload_n 1, 1) := dk_27 (dk_at dksJ7_checkIndex_0 5 rfl rfl)
theorem dJ7_checkIndex_6 : decode cJ7_checkIndex 6 = .ok (.if_icmp .lt 10, 3) := dk_161 0 10 (dk_at dksJ7_checkIndex_0 6 rfl rfl)
theorem dJ7_checkIndex_9 : decode cJ7_checkIndex 9 = .ok (.aload_n 2, 1) := dk_44 (dk_at dksJ7_checkIndex_0 9 rfl rfl)
theorem dJ7_checkIndex_10 : decode cJ7_checkIndex 10 = .ok (.iload_n 0, 1) := dk_26 (dk_at dksJ7_checkIndex_0 10 rfl rfl)
theorem dJ7_checkIndex_11 : decode cJ7_checkIndex 11 = .ok (.iload_n 1, 1) := dk_27 (dk_at dksJ7_checkIndex_0 11 rfl rfl)
theorem dJ7_checkIndex_12 : decode cJ7_checkIndex 12 = .ok (.invokestatic 95, 3) := dk_184 0 95 (dk_at dksJ7_checkIndex_0 12 rfl rfl)
theorem dJ7_checkIndex_15 : decode cJ7_checkIndex 15 = .ok (.athrow, 1) := dk_191 (dk_at dksJ7_checkIndex_0 15 rfl rfl)
theorem dJ7_checkIndex_16 : decode cJ7_checkIndex 16 = .ok (.iload_n 0, 1) := dk_26 (dk_at dksJ7_checkIndex_0 16 rfl rfl)
theorem dJ7_checkIndex_17 : decode cJ7_checkIndex 17 = .ok (.ireturn, 1) := dk_172 (dk_at dksJ7_checkIndex_0 17 rfl rfl)
abbrev cJ7_checkFromIndexSize : ByteArray := prog_56_method_13_code
def yJ7_checkFromIndexSize : MethodName := ⟨RJ7, "checkFromIndexSize", "(IIILjava/util/function/BiFunction;)I"⟩
def dkwJ7_checkFromIndexSize_1 : List UInt8 := [172]
abbrev dktJ7_checkFromIndexSize_1 : List UInt8 := dkwJ7_checkFromIndexSize_1 ++ []
def dkwJ7_checkFromIndexSize_0 : List UInt8 := [28, 26, 128, 27, 128, 155, 0, 10, 27, 28, 26, 100, 164, 0, 11, 45, 26, 27, 28, 184, 0, 103, 191, 26]
abbrev dktJ7_checkFromIndexSize_0 : List UInt8 := dkwJ7_checkFromIndexSize_0 ++ dktJ7_checkFromIndexSize_1
theorem dksJ7_checkFromIndexSize_0 : cJ7_checkFromIndexSize.data.toList.drop 0 = dktJ7_checkFromIndexSize_0 := by decide +kernel
theorem dksJ7_checkFromIndexSize_1 : cJ7_checkFromIndexSize.data.toList.drop 24 = dktJ7_checkFromIndexSize_1 := dk_seg dksJ7_checkFromIndexSize_0 24 rfl rfl
theorem dJ7_checkFromIndexSize_0 : decode cJ7_checkFromIndexSize 0 = .ok (.iload_n 2, 1) := dk_28 (dk_at dksJ7_checkFromIndexSize_0 0 rfl rfl)
theorem dJ7_checkFromIndexSize_1 : decode cJ7_checkFromIndexSize 1 = .ok (.iload_n 0, 1) := dk_26 (dk_at dksJ7_checkFromIndexSize_0 1 rfl rfl)
theorem dJ7_checkFromIndexSize_2 : decode cJ7_checkFromIndexSize 2 = .ok (.ior, 1) := dk_128 (dk_at dksJ7_checkFromIndexSize_0 2 rfl rfl)
theorem dJ7_checkFromIndexSize_3 : decode cJ7_checkFromIndexSize 3 = .ok (.iload_n 1, 1) := dk_27 (dk_at dksJ7_checkFromIndexSize_0 3 rfl rfl)
theorem dJ7_checkFromIndexSize_4 : decode cJ7_checkFromIndexSize 4 = .ok (.ior, 1) := dk_128 (dk_at dksJ7_checkFromIndexSize_0 4 rfl rfl)
theorem dJ7_checkFromIndexSize_5 : decode cJ7_checkFromIndexSize 5 = .ok (.ifCond .lt 10, 3) := dk_155 0 10 (dk_at dksJ7_checkFromIndexSize_0 5 rfl rfl)
theorem dJ7_checkFromIndexSize_8 : decode cJ7_checkFromIndexSize 8 = .ok (.iload_n 1, 1) := dk_27 (dk_at dksJ7_checkFromIndexSize_0 8 rfl rfl)
theorem dJ7_checkFromIndexSize_9 : decode cJ7_checkFromIndexSize 9 = .ok (.iload_n 2, 1) := dk_28 (dk_at dksJ7_checkFromIndexSize_0 9 rfl rfl)
theorem dJ7_checkFromIndexSize_10 : decode cJ7_checkFromIndexSize 10 = .ok (.iload_n 0, 1) := dk_26 (dk_at dksJ7_checkFromIndexSize_0 10 rfl rfl)
theorem dJ7_checkFromIndexSize_11 : decode cJ7_checkFromIndexSize 11 = .ok (.isub, 1) := dk_100 (dk_at dksJ7_checkFromIndexSize_0 11 rfl rfl)
theorem dJ7_checkFromIndexSize_12 : decode cJ7_checkFromIndexSize 12 = .ok (.if_icmp .le 11, 3) := dk_164 0 11 (dk_at dksJ7_checkFromIndexSize_0 12 rfl rfl)
theorem dJ7_checkFromIndexSize_15 : decode cJ7_checkFromIndexSize 15 = .ok (.aload_n 3, 1) := dk_45 (dk_at dksJ7_checkFromIndexSize_0 15 rfl rfl)
theorem dJ7_checkFromIndexSize_16 : decode cJ7_checkFromIndexSize 16 = .ok (.iload_n 0, 1) := dk_26 (dk_at dksJ7_checkFromIndexSize_0 16 rfl rfl)
theorem dJ7_checkFromIndexSize_17 : decode cJ7_checkFromIndexSize 17 = .ok (.iload_n 1, 1) := dk_27 (dk_at dksJ7_checkFromIndexSize_0 17 rfl rfl)
theorem dJ7_checkFromIndexSize_18 : decode cJ7_checkFromIndexSize 18 = .ok (.iload_n 2, 1) := dk_28 (dk_at dksJ7_checkFromIndexSize_0 18 rfl rfl)
theorem dJ7_checkFromIndexSize_19 : decode cJ7_checkFromIndexSize 19 = .ok (.invokestatic 103, 3) := dk_184 0 103 (dk_at dksJ7_checkFromIndexSize_0 19 rfl rfl)
theorem dJ7_checkFromIndexSize_22 : decode cJ7_checkFromIndexSize 22 = .ok (.athrow, 1) := dk_191 (dk_at dksJ7_checkFromIndexSize_0 22 rfl rfl)
theorem dJ7_checkFromIndexSize_23 : decode cJ7_checkFromIndexSize 23 = .ok (.iload_n 0, 1) := dk_26 (dk_at dksJ7_checkFromIndexSize_0 23 rfl rfl)
theorem dJ7_checkFromIndexSize_24 : decode cJ7_checkFromIndexSize 24 = .ok (.ireturn, 1) := dk_172 (dk_at dksJ7_checkFromIndexSize_1 0 rfl rfl)
theorem q180 : (Jvm.Cond.initialized "jdk/internal/util/Preconditions") ∈ lw_all := lw_g (lw_at lw_m1 14 rfl) rfl
theorem q486 : (Jvm.Cond.static ({ cls := "jdk/internal/util/Preconditions", name := "checkIndex", desc := "(IILjava/util/function/BiFunction;)I" } : Jvm.MethodName)) ∈ lw_all := lw_g (lw_at lw_m2 80 rfl) rfl
theorem q487 : (Jvm.Cond.code ({ cls := "jdk/internal/util/Preconditions", name := "checkIndex", desc := "(IILjava/util/function/BiFunction;)I" } : Jvm.MethodName) prog_56_method_11_code (3 : Nat) (Option.some Jvm.ClassFile.FieldType.int)) ∈ lw_all := lw_g (lw_at lw_m2 81 rfl) rfl
theorem q705 : (Jvm.Cond.laysStatic "jdk/internal/util/Preconditions" "SIOOBE_FORMATTER" "Ljava/util/function/BiFunction;") ∈ lw_tbl := lw_at lw_m3 59 rfl
theorem q707 : (Jvm.Cond.static ({ cls := "jdk/internal/util/Preconditions", name := "checkFromIndexSize", desc := "(IIILjava/util/function/BiFunction;)I" } : Jvm.MethodName)) ∈ lw_all := lw_g (lw_at lw_m3 61 rfl) rfl
theorem q708 : (Jvm.Cond.code ({ cls := "jdk/internal/util/Preconditions", name := "checkFromIndexSize", desc := "(IIILjava/util/function/BiFunction;)I" } : Jvm.MethodName) prog_56_method_13_code (4 : Nat) (Option.some Jvm.ClassFile.FieldType.int)) ∈ lw_all := lw_g (lw_at lw_m3 62 rfl) rfl
/-! java/lang/Math -/
set_option maxRecDepth 100000
def RJ8 : String := "java/lang/Math"
abbrev cJ8_min : ByteArray := prog_34_method_69_code
def yJ8_min : MethodName := ⟨RJ8, "min", "(II)I"⟩
def dkwJ8_min_0 : List UInt8 := [26, 27, 163, 0, 7, 26, 167, 0, 4, 27, 172]
abbrev dktJ8_min_0 : List UInt8 := dkwJ8_min_0 ++ []
theorem dksJ8_min_0 : cJ8_min.data.toList.drop 0 = dktJ8_min_0 := by decide +kernel
theorem dJ8_min_0 : decode cJ8_min 0 = .ok (.iload_n 0, 1) := dk_26 (dk_at dksJ8_min_0 0 rfl rfl)
theorem dJ8_min_1 : decode cJ8_min 1 = .ok (.iload_n 1, 1) := dk_27 (dk_at dksJ8_min_0 1 rfl rfl)
theorem dJ8_min_2 : decode cJ8_min 2 = .ok (.if_icmp .gt 7, 3) := dk_163 0 7 (dk_at dksJ8_min_0 2 rfl rfl)
theorem dJ8_min_5 : decode cJ8_min 5 = .ok (.iload_n 0, 1) := dk_26 (dk_at dksJ8_min_0 5 rfl rfl)
theorem dJ8_min_6 : decode cJ8_min 6 = .ok (.goto 4, 3) := dk_167 0 4 (dk_at dksJ8_min_0 6 rfl rfl)
theorem dJ8_min_9 : decode cJ8_min 9 = .ok (.iload_n 1, 1) := dk_27 (dk_at dksJ8_min_0 9 rfl rfl)
theorem dJ8_min_10 : decode cJ8_min 10 = .ok (.ireturn, 1) := dk_172 (dk_at dksJ8_min_0 10 rfl rfl)
abbrev cJ8_max : ByteArray := prog_34_method_65_code
def yJ8_max : MethodName := ⟨RJ8, "max", "(II)I"⟩
def dkwJ8_max_0 : List UInt8 := [26, 27, 161, 0, 7, 26, 167, 0, 4, 27, 172]
abbrev dktJ8_max_0 : List UInt8 := dkwJ8_max_0 ++ []
theorem dksJ8_max_0 : cJ8_max.data.toList.drop 0 = dktJ8_max_0 := by decide +kernel
theorem dJ8_max_0 : decode cJ8_max 0 = .ok (.iload_n 0, 1) := dk_26 (dk_at dksJ8_max_0 0 rfl rfl)
theorem dJ8_max_1 : decode cJ8_max 1 = .ok (.iload_n 1, 1) := dk_27 (dk_at dksJ8_max_0 1 rfl rfl)
theorem dJ8_max_2 : decode cJ8_max 2 = .ok (.if_icmp .lt 7, 3) := dk_161 0 7 (dk_at dksJ8_max_0 2 rfl rfl)
theorem dJ8_max_5 : decode cJ8_max 5 = .ok (.iload_n 0, 1) := dk_26 (dk_at dksJ8_max_0 5 rfl rfl)
theorem dJ8_max_6 : decode cJ8_max 6 = .ok (.goto 4, 3) := dk_167 0 4 (dk_at dksJ8_max_0 6 rfl rfl)
theorem dJ8_max_9 : decode cJ8_max 9 = .ok (.iload_n 1, 1) := dk_27 (dk_at dksJ8_max_0 9 rfl rfl)
theorem dJ8_max_10 : decode cJ8_max 10 = .ok (.ireturn, 1) := dk_172 (dk_at dksJ8_max_0 10 rfl rfl)
abbrev cJ8_min_2 : ByteArray := prog_34_method_70_code
def yJ8_min_2 : MethodName := ⟨RJ8, "min", "(JJ)J"⟩
def dkwJ8_min_2_0 : List UInt8 := [30, 32, 148, 157, 0, 7, 30, 167, 0, 4, 32, 173]
abbrev dktJ8_min_2_0 : List UInt8 := dkwJ8_min_2_0 ++ []
theorem dksJ8_min_2_0 : cJ8_min_2.data.toList.drop 0 = dktJ8_min_2_0 := by decide +kernel
theorem dJ8_min_2_0 : decode cJ8_min_2 0 = .ok (.lload_n 0, 1) := dk_30 (dk_at dksJ8_min_2_0 0 rfl rfl)
theorem dJ8_min_2_1 : decode cJ8_min_2 1 = .ok (.lload_n 2, 1) := dk_32 (dk_at dksJ8_min_2_0 1 rfl rfl)
theorem dJ8_min_2_2 : decode cJ8_min_2 2 = .ok (.lcmp, 1) := dk_148 (dk_at dksJ8_min_2_0 2 rfl rfl)
theorem dJ8_min_2_3 : decode cJ8_min_2 3 = .ok (.ifCond .gt 7, 3) := dk_157 0 7 (dk_at dksJ8_min_2_0 3 rfl rfl)
theorem dJ8_min_2_6 : decode cJ8_min_2 6 = .ok (.lload_n 0, 1) := dk_30 (dk_at dksJ8_min_2_0 6 rfl rfl)
theorem dJ8_min_2_7 : decode cJ8_min_2 7 = .ok (.goto 4, 3) := dk_167 0 4 (dk_at dksJ8_min_2_0 7 rfl rfl)
theorem dJ8_min_2_10 : decode cJ8_min_2 10 = .ok (.lload_n 2, 1) := dk_32 (dk_at dksJ8_min_2_0 10 rfl rfl)
theorem dJ8_min_2_11 : decode cJ8_min_2 11 = .ok (.lreturn, 1) := dk_173 (dk_at dksJ8_min_2_0 11 rfl rfl)
abbrev cJ8_max_2 : ByteArray := prog_34_method_66_code
def yJ8_max_2 : MethodName := ⟨RJ8, "max", "(JJ)J"⟩
def dkwJ8_max_2_0 : List UInt8 := [30, 32, 148, 155, 0, 7, 30, 167, 0, 4, 32, 173]
abbrev dktJ8_max_2_0 : List UInt8 := dkwJ8_max_2_0 ++ []
theorem dksJ8_max_2_0 : cJ8_max_2.data.toList.drop 0 = dktJ8_max_2_0 := by decide +kernel
theorem dJ8_max_2_0 : decode cJ8_max_2 0 = .ok (.lload_n 0, 1) := dk_30 (dk_at dksJ8_max_2_0 0 rfl rfl)
theorem dJ8_max_2_1 : decode cJ8_max_2 1 = .ok (.lload_n 2, 1) := dk_32 (dk_at dksJ8_max_2_0 1 rfl rfl)
theorem dJ8_max_2_2 : decode cJ8_max_2 2 = .ok (.lcmp, 1) := dk_148 (dk_at dksJ8_max_2_0 2 rfl rfl)
theorem dJ8_max_2_3 : decode cJ8_max_2 3 = .ok (.ifCond .lt 7, 3) := dk_155 0 7 (dk_at dksJ8_max_2_0 3 rfl rfl)
theorem dJ8_max_2_6 : decode cJ8_max_2 6 = .ok (.lload_n 0, 1) := dk_30 (dk_at dksJ8_max_2_0 6 rfl rfl)
theorem dJ8_max_2_7 : decode cJ8_max_2 7 = .ok (.goto 4, 3) := dk_167 0 4 (dk_at dksJ8_max_2_0 7 rfl rfl)
theorem dJ8_max_2_10 : decode cJ8_max_2 10 = .ok (.lload_n 2, 1) := dk_32 (dk_at dksJ8_max_2_0 10 rfl rfl)
theorem dJ8_max_2_11 : decode cJ8_max_2 11 = .ok (.lreturn, 1) := dk_173 (dk_at dksJ8_max_2_0 11 rfl rfl)
abbrev cJ8_floorDiv : ByteArray := prog_34_method_49_code
def yJ8_floorDiv : MethodName := ⟨RJ8, "floorDiv", "(JJ)J"⟩
def dkwJ8_floorDiv_1 : List UInt8 := [10, 101, 173, 22, 4, 173]
abbrev dktJ8_floorDiv_1 : List UInt8 := dkwJ8_floorDiv_1 ++ []
def dkwJ8_floorDiv_0 : List UInt8 := [30, 32, 109, 55, 4, 30, 32, 131, 9, 148, 156, 0, 17, 22, 4, 32, 105, 30, 148, 153, 0, 8, 22, 4]
abbrev dktJ8_floorDiv_0 : List UInt8 := dkwJ8_floorDiv_0 ++ dktJ8_floorDiv_1
theorem dksJ8_floorDiv_0 : cJ8_floorDiv.data.toList.drop 0 = dktJ8_floorDiv_0 := by decide +kernel
theorem dksJ8_floorDiv_1 : cJ8_floorDiv.data.toList.drop 24 = dktJ8_floorDiv_1 := dk_seg dksJ8_floorDiv_0 24 rfl rfl
theorem dJ8_floorDiv_0 : decode cJ8_floorDiv 0 = .ok (.lload_n 0, 1) := dk_30 (dk_at dksJ8_floorDiv_0 0 rfl rfl)
theorem dJ8_floorDiv_1 : decode cJ8_floorDiv 1 = .ok (.lload_n 2, 1) := dk_32 (dk_at dksJ8_floorDiv_0 1 rfl rfl)
theorem dJ8_floorDiv_2 : decode cJ8_floorDiv 2 = .ok (.ldiv, 1) := dk_109 (dk_at dksJ8_floorDiv_0 2 rfl rfl)
theorem dJ8_floorDiv_3 : decode cJ8_floorDiv 3 = .ok (.lstore 4, 2) := dk_55 4 (dk_at dksJ8_floorDiv_0 3 rfl rfl)
theorem dJ8_floorDiv_5 : decode cJ8_floorDiv 5 = .ok (.lload_n 0, 1) := dk_30 (dk_at dksJ8_floorDiv_0 5 rfl rfl)
theorem dJ8_floorDiv_6 : decode cJ8_floorDiv 6 = .ok (.lload_n 2, 1) := dk_32 (dk_at dksJ8_floorDiv_0 6 rfl rfl)
theorem dJ8_floorDiv_7 : decode cJ8_floorDiv 7 = .ok (.lxor, 1) := dk_131 (dk_at dksJ8_floorDiv_0 7 rfl rfl)
theorem dJ8_floorDiv_8 : decode cJ8_floorDiv 8 = .ok (.lconst 0, 1) := dk_9 (dk_at dksJ8_floorDiv_0 8 rfl rfl)
theorem dJ8_floorDiv_9 : decode cJ8_floorDiv 9 = .ok (.lcmp, 1) := dk_148 (dk_at dksJ8_floorDiv_0 9 rfl rfl)
theorem dJ8_floorDiv_10 : decode cJ8_floorDiv 10 = .ok (.ifCond .ge 17, 3) := dk_156 0 17 (dk_at dksJ8_floorDiv_0 10 rfl rfl)
theorem dJ8_floorDiv_13 : decode cJ8_floorDiv 13 = .ok (.lload 4, 2) := dk_22 4 (dk_at dksJ8_floorDiv_0 13 rfl rfl)
theorem dJ8_floorDiv_15 : decode cJ8_floorDiv 15 = .ok (.lload_n 2, 1) := dk_32 (dk_at dksJ8_floorDiv_0 15 rfl rfl)
theorem dJ8_floorDiv_16 : decode cJ8_floorDiv 16 = .ok (.lmul, 1) := dk_105 (dk_at dksJ8_floorDiv_0 16 rfl rfl)
theorem dJ8_floorDiv_17 : decode cJ8_floorDiv 17 = .ok (.lload_n 0, 1) := dk_30 (dk_at dksJ8_floorDiv_0 17 rfl rfl)
theorem dJ8_floorDiv_18 : decode cJ8_floorDiv 18 = .ok (.lcmp, 1) := dk_148 (dk_at dksJ8_floorDiv_0 18 rfl rfl)
theorem dJ8_floorDiv_19 : decode cJ8_floorDiv 19 = .ok (.ifCond .eq 8, 3) := dk_153 0 8 (dk_at dksJ8_floorDiv_0 19 rfl rfl)
theorem dJ8_floorDiv_22 : decode cJ8_floorDiv 22 = .ok (.lload 4, 2) := dk_22 4 (dk_at dksJ8_floorDiv_0 22 rfl rfl)
theorem dJ8_floorDiv_24 : decode cJ8_floorDiv 24 = .ok (.lconst 1, 1) := dk_10 (dk_at dksJ8_floorDiv_1 0 rfl rfl)
theorem dJ8_floorDiv_25 : decode cJ8_floorDiv 25 = .ok (.lsub, 1) := dk_101 (dk_at dksJ8_floorDiv_1 1 rfl rfl)
theorem dJ8_floorDiv_26 : decode cJ8_floorDiv 26 = .ok (.lreturn, 1) := dk_173 (dk_at dksJ8_floorDiv_1 2 rfl rfl)
theorem dJ8_floorDiv_27 : decode cJ8_floorDiv 27 = .ok (.lload 4, 2) := dk_22 4 (dk_at dksJ8_floorDiv_1 3 rfl rfl)
theorem dJ8_floorDiv_29 : decode cJ8_floorDiv 29 = .ok (.lreturn, 1) := dk_173 (dk_at dksJ8_floorDiv_1 5 rfl rfl)
theorem q181 : (Jvm.Cond.initialized "java/lang/Math") ∈ lw_all := lw_g (lw_at lw_m1 15 rfl) rfl
theorem q494 : (Jvm.Cond.static ({ cls := "java/lang/Math", name := "min", desc := "(II)I" } : Jvm.MethodName)) ∈ lw_all := lw_g (lw_at lw_m2 88 rfl) rfl
theorem q495 : (Jvm.Cond.code ({ cls := "java/lang/Math", name := "min", desc := "(II)I" } : Jvm.MethodName) prog_34_method_69_code (2 : Nat) (Option.some Jvm.ClassFile.FieldType.int)) ∈ lw_all := lw_g (lw_at lw_m2 89 rfl) rfl
theorem q870 : (Jvm.Cond.static ({ cls := "java/lang/Math", name := "max", desc := "(II)I" } : Jvm.MethodName)) ∈ lw_all := lw_g (lw_at lw_m3 224 rfl) rfl
theorem q871 : (Jvm.Cond.code ({ cls := "java/lang/Math", name := "max", desc := "(II)I" } : Jvm.MethodName) prog_34_method_65_code (2 : Nat) (Option.some Jvm.ClassFile.FieldType.int)) ∈ lw_all := lw_g (lw_at lw_m3 225 rfl) rfl
theorem q1419 : (Jvm.Cond.static ({ cls := "java/lang/Math", name := "min", desc := "(JJ)J" } : Jvm.MethodName)) ∈ lw_all := lw_g (lw_at lw_m6 53 rfl) rfl
theorem q1420 : (Jvm.Cond.code ({ cls := "java/lang/Math", name := "min", desc := "(JJ)J" } : Jvm.MethodName) prog_34_method_70_code (4 : Nat) (Option.some Jvm.ClassFile.FieldType.long)) ∈ lw_all := lw_g (lw_at lw_m6 54 rfl) rfl
theorem q1422 : (Jvm.Cond.static ({ cls := "java/lang/Math", name := "max", desc := "(JJ)J" } : Jvm.MethodName)) ∈ lw_all := lw_g (lw_at lw_m6 56 rfl) rfl
theorem q1423 : (Jvm.Cond.code ({ cls := "java/lang/Math", name := "max", desc := "(JJ)J" } : Jvm.MethodName) prog_34_method_66_code (4 : Nat) (Option.some Jvm.ClassFile.FieldType.long)) ∈ lw_all := lw_g (lw_at lw_m6 57 rfl) rfl
theorem q1476 : (Jvm.Cond.static ({ cls := "java/lang/Math", name := "floorDiv", desc := "(JJ)J" } : Jvm.MethodName)) ∈ lw_all := lw_g (lw_at lw_m6 110 rfl) rfl
theorem q1477 : (Jvm.Cond.code ({ cls := "java/lang/Math", name := "floorDiv", desc := "(JJ)J" } : Jvm.MethodName) prog_34_method_49_code (6 : Nat) (Option.some Jvm.ClassFile.FieldType.long)) ∈ lw_all := lw_g (lw_at lw_m6 111 rfl) rfl
/-! java/lang/String -/
set_option maxRecDepth 100000
def RJ9 : String := "java/lang/String"
def TJ9 : u_T := fun k => match k with
  | 0 => ("java/lang/String", "value", "[B", true)
  | 1 => ("java/lang/String", "coder", "B", true)
  | 2 => ("java/lang/String", "hash", "I", false)
  | _ => ("java/lang/String", "hashIsZero", "Z", false)
def tyJ9 : Nat → FieldType := fun k => match k with
  | 0 => .array .byte
  | 1 => .byte
  | 2 => .int
  | _ => .boolean
abbrev wsJ90 : List Cond := u_ws RJ9 TJ9 4
theorem nmJ9 : ∀ a, a < 4 → ∀ b, b < 4 → a ≠ b → (TJ9 a).2.1 ≠ (TJ9 b).2.1 := by decide +kernel
theorem tyJ9_ok : ∀ k, k < 4 → parseFieldDescriptor (TJ9 k).2.2.1 = some (tyJ9 k) := by decide +kernel
abbrev cJ9_valueOf : ByteArray := prog_36_method_134_code
def yJ9_valueOf : MethodName := ⟨RJ9, "valueOf", "([C)Ljava/lang/String;"⟩
def dkwJ9_valueOf_0 : List UInt8 := [187, 0, 10, 89, 42, 183, 3, 240, 176]
abbrev dktJ9_valueOf_0 : List UInt8 := dkwJ9_valueOf_0 ++ []
theorem dksJ9_valueOf_0 : cJ9_valueOf.data.toList.drop 0 = dktJ9_valueOf_0 := by decide +kernel
theorem dJ9_valueOf_0 : decode cJ9_valueOf 0 = .ok (.new 10, 3) := dk_187 0 10 (dk_at dksJ9_valueOf_0 0 rfl rfl)
theorem dJ9_valueOf_3 : decode cJ9_valueOf 3 = .ok (.dup, 1) := dk_89 (dk_at dksJ9_valueOf_0 3 rfl rfl)
theorem dJ9_valueOf_4 : decode cJ9_valueOf 4 = .ok (.aload_n 0, 1) := dk_42 (dk_at dksJ9_valueOf_0 4 rfl rfl)
theorem dJ9_valueOf_5 : decode cJ9_valueOf 5 = .ok (.invokespecial 1008, 3) := dk_183 3 240 (dk_at dksJ9_valueOf_0 5 rfl rfl)
theorem dJ9_valueOf_8 : decode cJ9_valueOf 8 = .ok (.areturn, 1) := dk_176 (dk_at dksJ9_valueOf_0 8 rfl rfl)
abbrev cJ9_init : ByteArray := prog_36_method_3_code
def yJ9_init : MethodName := ⟨RJ9, "<init>", "([C)V"⟩
def dkwJ9_init_0 : List UInt8 := [42, 43, 3, 43, 190, 1, 183, 0, 27, 177]
abbrev dktJ9_init_0 : List UInt8 := dkwJ9_init_0 ++ []
theorem dksJ9_init_0 : cJ9_init.data.toList.drop 0 = dktJ9_init_0 := by decide +kernel
theorem dJ9_init_0 : decode cJ9_init 0 = .ok (.aload_n 0, 1) := dk_42 (dk_at dksJ9_init_0 0 rfl rfl)
theorem dJ9_init_1 : decode cJ9_init 1 = .ok (.aload_n 1, 1) := dk_43 (dk_at dksJ9_init_0 1 rfl rfl)
theorem dJ9_init_2 : decode cJ9_init 2 = .ok (.iconst 0, 1) := dk_3 (dk_at dksJ9_init_0 2 rfl rfl)
theorem dJ9_init_3 : decode cJ9_init 3 = .ok (.aload_n 1, 1) := dk_43 (dk_at dksJ9_init_0 3 rfl rfl)
theorem dJ9_init_4 : decode cJ9_init 4 = .ok (.arraylength, 1) := dk_190 (dk_at dksJ9_init_0 4 rfl rfl)
theorem dJ9_init_5 : decode cJ9_init 5 = .ok (.aconst_null, 1) := dk_1 (dk_at dksJ9_init_0 5 rfl rfl)
theorem dJ9_init_6 : decode cJ9_init 6 = .ok (.invokespecial 27, 3) := dk_183 0 27 (dk_at dksJ9_init_0 6 rfl rfl)
theorem dJ9_init_9 : decode cJ9_init 9 = .ok (.return_, 1) := dk_177 (dk_at dksJ9_init_0 9 rfl rfl)
abbrev cJ9_init_2 : ByteArray := prog_36_method_149_code
def yJ9_init_2 : MethodName := ⟨RJ9, "<init>", "([CIILjava/lang/Void;)V"⟩
def dkwJ9_init_2_3 : List UInt8 := [184, 0, 180, 181, 0, 9, 177]
abbrev dktJ9_init_2_3 : List UInt8 := dkwJ9_init_2_3 ++ []
def dkwJ9_init_2_2 : List UInt8 := [184, 0, 47, 181, 0, 15, 42, 25, 5, 181, 0, 9, 177, 42, 4, 181, 0, 15, 42, 43, 28, 29]
abbrev dktJ9_init_2_2 : List UInt8 := dkwJ9_init_2_2 ++ dktJ9_init_2_3
def dkwJ9_init_2_1 : List UInt8 := [181, 0, 15, 177, 178, 0, 38, 153, 0, 28, 43, 28, 29, 184, 0, 177, 58, 5, 42, 25, 5, 29]
abbrev dktJ9_init_2_1 : List UInt8 := dkwJ9_init_2_1 ++ dktJ9_init_2_2
def dkwJ9_init_2_0 : List UInt8 := [42, 183, 0, 1, 29, 154, 0, 22, 42, 18, 7, 180, 0, 9, 181, 0, 9, 42, 18, 7, 180, 0, 15]
abbrev dktJ9_init_2_0 : List UInt8 := dkwJ9_init_2_0 ++ dktJ9_init_2_1
theorem dksJ9_init_2_0 : cJ9_init_2.data.toList.drop 0 = dktJ9_init_2_0 := by decide +kernel
theorem dksJ9_init_2_1 : cJ9_init_2.data.toList.drop 23 = dktJ9_init_2_1 := dk_seg dksJ9_init_2_0 23 rfl rfl
theorem dksJ9_init_2_2 : cJ9_init_2.data.toList.drop 45 = dktJ9_init_2_2 := dk_seg dksJ9_init_2_1 22 rfl rfl
theorem dksJ9_init_2_3 : cJ9_init_2.data.toList.drop 67 = dktJ9_init_2_3 := dk_seg dksJ9_init_2_2 22 rfl rfl
theorem dJ9_init_2_0 : decode cJ9_init_2 0 = .ok (.aload_n 0, 1) := dk_42 (dk_at dksJ9_init_2_0 0 rfl rfl)
theorem dJ9_init_2_1 : decode cJ9_init_2 1 = .ok (.invokespecial 1, 3) := dk_183 0 1 (dk_at dksJ9_init_2_0 1 rfl rfl)
theorem dJ9_init_2_4 : decode cJ9_init_2 4 = .ok (.iload_n 3, 1) := dk_29 (dk_at dksJ9_init_2_0 4 rfl rfl)
theorem dJ9_init_2_5 : decode cJ9_init_2 5 = .ok (.ifCond .ne 22, 3) := dk_154 0 22 (dk_at dksJ9_init_2_0 5 rfl rfl)
theorem dJ9_init_2_8 : decode cJ9_init_2 8 = .ok (.aload_n 0, 1) := dk_42 (dk_at dksJ9_init_2_0 8 rfl rfl)
theorem dJ9_init_2_9 : decode cJ9_init_2 9 = .ok (.ldc 7, 2) := dk_18 7 (dk_at dksJ9_init_2_0 9 rfl rfl)
theorem dJ9_init_2_11 : decode cJ9_init_2 11 = .ok (.getfield 9, 3) := dk_180 0 9 (dk_at dksJ9_init_2_0 11 rfl rfl)
theorem dJ9_init_2_14 : decode cJ9_init_2 14 = .ok (.putfield 9, 3) := dk_181 0 9 (dk_at dksJ9_init_2_0 14 rfl rfl)
theorem dJ9_init_2_17 : decode cJ9_init_2 17 = .ok (.aload_n 0, 1) := dk_42 (dk_at dksJ9_init_2_0 17 rfl rfl)
theorem dJ9_init_2_18 : decode cJ9_init_2 18 = .ok (.ldc 7, 2) := dk_18 7 (dk_at dksJ9_init_2_0 18 rfl rfl)
theorem dJ9_init_2_20 : decode cJ9_init_2 20 = .ok (.getfield 15, 3) := dk_180 0 15 (dk_at dksJ9_init_2_0 20 rfl rfl)
theorem dJ9_init_2_23 : decode cJ9_init_2 23 = .ok (.putfield 15, 3) := dk_181 0 15 (dk_at dksJ9_init_2_1 0 rfl rfl)
theorem dJ9_init_2_26 : decode cJ9_init_2 26 = .ok (.return_, 1) := dk_177 (dk_at dksJ9_init_2_1 3 rfl rfl)
theorem dJ9_init_2_27 : decode cJ9_init_2 27 = .ok (.getstatic 38, 3) := dk_178 0 38 (dk_at dksJ9_init_2_1 4 rfl rfl)
theorem dJ9_init_2_30 : decode cJ9_init_2 30 = .ok (.ifCond .eq 28, 3) := dk_153 0 28 (dk_at dksJ9_init_2_1 7 rfl rfl)
theorem dJ9_init_2_33 : decode cJ9_init_2 33 = .ok (.aload_n 1, 1) := dk_43 (dk_at dksJ9_init_2_1 10 rfl rfl)
theorem dJ9_init_2_34 : decode cJ9_init_2 34 = .ok (.iload_n 2, 1) := dk_28 (dk_at dksJ9_init_2_1 11 rfl rfl)
theorem dJ9_init_2_35 : decode cJ9_init_2 35 = .ok (.iload_n 3, 1) := dk_29 (dk_at dksJ9_init_2_1 12 rfl rfl)
theorem dJ9_init_2_36 : decode cJ9_init_2 36 = .ok (.invokestatic 177, 3) := dk_184 0 177 (dk_at dksJ9_init_2_1 13 rfl rfl)
theorem dJ9_init_2_39 : decode cJ9_init_2 39 = .ok (.astore 5, 2) := dk_58 5 (dk_at dksJ9_init_2_1 16 rfl rfl)
theorem dJ9_init_2_41 : decode cJ9_init_2 41 = .ok (.aload_n 0, 1) := dk_42 (dk_at dksJ9_init_2_1 18 rfl rfl)
theorem dJ9_init_2_42 : decode cJ9_init_2 42 = .ok (.aload 5, 2) := dk_25 5 (dk_at dksJ9_init_2_1 19 rfl rfl)
theorem dJ9_init_2_44 : decode cJ9_init_2 44 = .ok (.iload_n 3, 1) := dk_29 (dk_at dksJ9_init_2_1 21 rfl rfl)
theorem dJ9_init_2_45 : decode cJ9_init_2 45 = .ok (.invokestatic 47, 3) := dk_184 0 47 (dk_at dksJ9_init_2_2 0 rfl rfl)
theorem dJ9_init_2_48 : decode cJ9_init_2 48 = .ok (.putfield 15, 3) := dk_181 0 15 (dk_at dksJ9_init_2_2 3 rfl rfl)
theorem dJ9_init_2_51 : decode cJ9_init_2 51 = .ok (.aload_n 0, 1) := dk_42 (dk_at dksJ9_init_2_2 6 rfl rfl)
theorem dJ9_init_2_52 : decode cJ9_init_2 52 = .ok (.aload 5, 2) := dk_25 5 (dk_at dksJ9_init_2_2 7 rfl rfl)
theorem dJ9_init_2_54 : decode cJ9_init_2 54 = .ok (.putfield 9, 3) := dk_181 0 9 (dk_at dksJ9_init_2_2 9 rfl rfl)
theorem dJ9_init_2_57 : decode cJ9_init_2 57 = .ok (.return_, 1) := dk_177 (dk_at dksJ9_init_2_2 12 rfl rfl)
theorem dJ9_init_2_58 : decode cJ9_init_2 58 = .ok (.aload_n 0, 1) := dk_42 (dk_at dksJ9_init_2_2 13 rfl rfl)
theorem dJ9_init_2_59 : decode cJ9_init_2 59 = .ok (.iconst 1, 1) := dk_4 (dk_at dksJ9_init_2_2 14 rfl rfl)
theorem dJ9_init_2_60 : decode cJ9_init_2 60 = .ok (.putfield 15, 3) := dk_181 0 15 (dk_at dksJ9_init_2_2 15 rfl rfl)
theorem dJ9_init_2_63 : decode cJ9_init_2 63 = .ok (.aload_n 0, 1) := dk_42 (dk_at dksJ9_init_2_2 18 rfl rfl)
theorem dJ9_init_2_64 : decode cJ9_init_2 64 = .ok (.aload_n 1, 1) := dk_43 (dk_at dksJ9_init_2_2 19 rfl rfl)
theorem dJ9_init_2_65 : decode cJ9_init_2 65 = .ok (.iload_n 2, 1) := dk_28 (dk_at dksJ9_init_2_2 20 rfl rfl)
theorem dJ9_init_2_66 : decode cJ9_init_2 66 = .ok (.iload_n 3, 1) := dk_29 (dk_at dksJ9_init_2_2 21 rfl rfl)
theorem dJ9_init_2_67 : decode cJ9_init_2 67 = .ok (.invokestatic 180, 3) := dk_184 0 180 (dk_at dksJ9_init_2_3 0 rfl rfl)
theorem dJ9_init_2_70 : decode cJ9_init_2 70 = .ok (.putfield 9, 3) := dk_181 0 9 (dk_at dksJ9_init_2_3 3 rfl rfl)
theorem dJ9_init_2_73 : decode cJ9_init_2 73 = .ok (.return_, 1) := dk_177 (dk_at dksJ9_init_2_3 6 rfl rfl)
abbrev cJ9_checkBoundsOffCount : ByteArray := prog_36_method_157_code
def yJ9_checkBoundsOffCount : MethodName := ⟨RJ9, "checkBoundsOffCount", "(III)I"⟩
def dkwJ9_checkBoundsOffCount_0 : List UInt8 := [26, 27, 28, 178, 4, 29, 184, 4, 41, 172]
abbrev dktJ9_checkBoundsOffCount_0 : List UInt8 := dkwJ9_checkBoundsOffCount_0 ++ []
theorem dksJ9_checkBoundsOffCount_0 : cJ9_checkBoundsOffCount.data.toList.drop 0 = dktJ9_checkBoundsOffCount_0 := by decide +kernel
theorem dJ9_checkBoundsOffCount_0 : decode cJ9_checkBoundsOffCount 0 = .ok (.iload_n 0, 1) := dk_26 (dk_at dksJ9_checkBoundsOffCount_0 0 rfl rfl)
theorem dJ9_checkBoundsOffCount_1 : decode cJ9_checkBoundsOffCount 1 = .ok (.iload_n 1, 1) := dk_27 (dk_at dksJ9_checkBoundsOffCount_0 1 rfl rfl)
theorem dJ9_checkBoundsOffCount_2 : decode cJ9_checkBoundsOffCount 2 = .ok (.iload_n 2, 1) := dk_28 (dk_at dksJ9_checkBoundsOffCount_0 2 rfl rfl)
theorem dJ9_checkBoundsOffCount_3 : decode cJ9_checkBoundsOffCount 3 = .ok (.getstatic 1053, 3) := dk_178 4 29 (dk_at dksJ9_checkBoundsOffCount_0 3 rfl rfl)
theorem dJ9_checkBoundsOffCount_6 : decode cJ9_checkBoundsOffCount 6 = .ok (.invokestatic 1065, 3) := dk_184 4 41 (dk_at dksJ9_checkBoundsOffCount_0 6 rfl rfl)
theorem dJ9_checkBoundsOffCount_9 : decode cJ9_checkBoundsOffCount 9 = .ok (.ireturn, 1) := dk_172 (dk_at dksJ9_checkBoundsOffCount_0 9 rfl rfl)
abbrev cJ9_hashCode : ByteArray := prog_36_method_78_code
def yJ9_hashCode : MethodName := ⟨RJ9, "hashCode", "()I"⟩
def dkwJ9_hashCode_2 : List UInt8 := [181, 0, 23, 167, 0, 8, 42, 27, 181, 0, 19, 27, 172]
abbrev dktJ9_hashCode_2 : List UInt8 := dkwJ9_hashCode_2 ++ []
def dkwJ9_hashCode_1 : List UInt8 := [180, 0, 9, 184, 2, 116, 167, 0, 10, 42, 180, 0, 9, 184, 2, 120, 60, 27, 154, 0, 11, 42, 4]
abbrev dktJ9_hashCode_1 : List UInt8 := dkwJ9_hashCode_1 ++ dktJ9_hashCode_2
def dkwJ9_hashCode_0 : List UInt8 := [42, 180, 0, 19, 60, 27, 154, 0, 52, 42, 180, 0, 23, 154, 0, 45, 42, 182, 1, 236, 153, 0, 13, 42]
abbrev dktJ9_hashCode_0 : List UInt8 := dkwJ9_hashCode_0 ++ dktJ9_hashCode_1
theorem dksJ9_hashCode_0 : cJ9_hashCode.data.toList.drop 0 = dktJ9_hashCode_0 := by decide +kernel
theorem dksJ9_hashCode_1 : cJ9_hashCode.data.toList.drop 24 = dktJ9_hashCode_1 := dk_seg dksJ9_hashCode_0 24 rfl rfl
theorem dksJ9_hashCode_2 : cJ9_hashCode.data.toList.drop 47 = dktJ9_hashCode_2 := dk_seg dksJ9_hashCode_1 23 rfl rfl
theorem dJ9_hashCode_0 : decode cJ9_hashCode 0 = .ok (.aload_n 0, 1) := dk_42 (dk_at dksJ9_hashCode_0 0 rfl rfl)
theorem dJ9_hashCode_1 : decode cJ9_hashCode 1 = .ok (.getfield 19, 3) := dk_180 0 19 (dk_at dksJ9_hashCode_0 1 rfl rfl)
theorem dJ9_hashCode_4 : decode cJ9_hashCode 4 = .ok (.istore_n 1, 1) := dk_60 (dk_at dksJ9_hashCode_0 4 rfl rfl)
theorem dJ9_hashCode_5 : decode cJ9_hashCode 5 = .ok (.iload_n 1, 1) := dk_27 (dk_at dksJ9_hashCode_0 5 rfl rfl)
theorem dJ9_hashCode_6 : decode cJ9_hashCode 6 = .ok (.ifCond .ne 52, 3) := dk_154 0 52 (dk_at dksJ9_hashCode_0 6 rfl rfl)
theorem dJ9_hashCode_9 : decode cJ9_hashCode 9 = .ok (.aload_n 0, 1) := dk_42 (dk_at dksJ9_hashCode_0 9 rfl rfl)
theorem dJ9_hashCode_10 : decode cJ9_hashCode 10 = .ok (.getfield 23, 3) := dk_180 0 23 (dk_at dksJ9_hashCode_0 10 rfl rfl)
theorem dJ9_hashCode_13 : decode cJ9_hashCode 13 = .ok (.ifCond .ne 45, 3) := dk_154 0 45 (dk_at dksJ9_hashCode_0 13 rfl rfl)
theorem dJ9_hashCode_16 : decode cJ9_hashCode 16 = .ok (.aload_n 0, 1) := dk_42 (dk_at dksJ9_hashCode_0 16 rfl rfl)
theorem dJ9_hashCode_17 : decode cJ9_hashCode 17 = .ok (.invokevirtual 492, 3) := dk_182 1 236 (dk_at dksJ9_hashCode_0 17 rfl rfl)
theorem dJ9_hashCode_20 : decode cJ9_hashCode 20 = .ok (.ifCond .eq 13, 3) := dk_153 0 13 (dk_at dksJ9_hashCode_0 20 rfl rfl)
theorem dJ9_hashCode_23 : decode cJ9_hashCode 23 = .ok (.aload_n 0, 1) := dk_42 (dk_at dksJ9_hashCode_0 23 rfl rfl)
theorem dJ9_hashCode_24 : decode cJ9_hashCode 24 = .ok (.getfield 9, 3) := dk_180 0 9 (dk_at dksJ9_hashCode_1 0 rfl rfl)
theorem dJ9_hashCode_27 : decode cJ9_hashCode 27 = .ok (.invokestatic 628, 3) := dk_184 2 116 (dk_at dksJ9_hashCode_1 3 rfl rfl)
theorem dJ9_hashCode_30 : decode cJ9_hashCode 30 = .ok (.goto 10, 3) := dk_167 0 10 (dk_at dksJ9_hashCode_1 6 rfl rfl)
theorem dJ9_hashCode_33 : decode cJ9_hashCode 33 = .ok (.aload_n 0, 1) := dk_42 (dk_at dksJ9_hashCode_1 9 rfl rfl)
theorem dJ9_hashCode_34 : decode cJ9_hashCode 34 = .ok (.getfield 9, 3) := dk_180 0 9 (dk_at dksJ9_hashCode_1 10 rfl rfl)
theorem dJ9_hashCode_37 : decode cJ9_hashCode 37 = .ok (.invokestatic 632, 3) := dk_184 2 120 (dk_at dksJ9_hashCode_1 13 rfl rfl)
theorem dJ9_hashCode_40 : decode cJ9_hashCode 40 = .ok (.istore_n 1, 1) := dk_60 (dk_at dksJ9_hashCode_1 16 rfl rfl)
theorem dJ9_hashCode_41 : decode cJ9_hashCode 41 = .ok (.iload_n 1, 1) := dk_27 (dk_at dksJ9_hashCode_1 17 rfl rfl)
theorem dJ9_hashCode_42 : decode cJ9_hashCode 42 = .ok (.ifCond .ne 11, 3) := dk_154 0 11 (dk_at dksJ9_hashCode_1 18 rfl rfl)
theorem dJ9_hashCode_45 : decode cJ9_hashCode 45 = .ok (.aload_n 0, 1) := dk_42 (dk_at dksJ9_hashCode_1 21 rfl rfl)
theorem dJ9_hashCode_46 : decode cJ9_hashCode 46 = .ok (.iconst 1, 1) := dk_4 (dk_at dksJ9_hashCode_1 22 rfl rfl)
theorem dJ9_hashCode_47 : decode cJ9_hashCode 47 = .ok (.putfield 23, 3) := dk_181 0 23 (dk_at dksJ9_hashCode_2 0 rfl rfl)
theorem dJ9_hashCode_50 : decode cJ9_hashCode 50 = .ok (.goto 8, 3) := dk_167 0 8 (dk_at dksJ9_hashCode_2 3 rfl rfl)
theorem dJ9_hashCode_53 : decode cJ9_hashCode 53 = .ok (.aload_n 0, 1) := dk_42 (dk_at dksJ9_hashCode_2 6 rfl rfl)
theorem dJ9_hashCode_54 : decode cJ9_hashCode 54 = .ok (.iload_n 1, 1) := dk_27 (dk_at dksJ9_hashCode_2 7 rfl rfl)
theorem dJ9_hashCode_55 : decode cJ9_hashCode 55 = .ok (.putfield 19, 3) := dk_181 0 19 (dk_at dksJ9_hashCode_2 8 rfl rfl)
theorem dJ9_hashCode_58 : decode cJ9_hashCode 58 = .ok (.iload_n 1, 1) := dk_27 (dk_at dksJ9_hashCode_2 11 rfl rfl)
theorem dJ9_hashCode_59 : decode cJ9_hashCode 59 = .ok (.ireturn, 1) := dk_172 (dk_at dksJ9_hashCode_2 12 rfl rfl)
abbrev cJ9_isLatin1 : ByteArray := prog_36_method_154_code
def yJ9_isLatin1 : MethodName := ⟨RJ9, "isLatin1", "()Z"⟩
def dkwJ9_isLatin1_0 : List UInt8 := [178, 0, 38, 153, 0, 14, 42, 180, 0, 15, 154, 0, 7, 4, 167, 0, 4, 3, 172]
abbrev dktJ9_isLatin1_0 : List UInt8 := dkwJ9_isLatin1_0 ++ []
theorem dksJ9_isLatin1_0 : cJ9_isLatin1.data.toList.drop 0 = dktJ9_isLatin1_0 := by decide +kernel
theorem dJ9_isLatin1_0 : decode cJ9_isLatin1 0 = .ok (.getstatic 38, 3) := dk_178 0 38 (dk_at dksJ9_isLatin1_0 0 rfl rfl)
theorem dJ9_isLatin1_3 : decode cJ9_isLatin1 3 = .ok (.ifCond .eq 14, 3) := dk_153 0 14 (dk_at dksJ9_isLatin1_0 3 rfl rfl)
theorem dJ9_isLatin1_6 : decode cJ9_isLatin1 6 = .ok (.aload_n 0, 1) := dk_42 (dk_at dksJ9_isLatin1_0 6 rfl rfl)
theorem dJ9_isLatin1_7 : decode cJ9_isLatin1 7 = .ok (.getfield 15, 3) := dk_180 0 15 (dk_at dksJ9_isLatin1_0 7 rfl rfl)
theorem dJ9_isLatin1_10 : decode cJ9_isLatin1 10 = .ok (.ifCond .ne 7, 3) := dk_154 0 7 (dk_at dksJ9_isLatin1_0 10 rfl rfl)
theorem dJ9_isLatin1_13 : decode cJ9_isLatin1 13 = .ok (.iconst 1, 1) := dk_4 (dk_at dksJ9_isLatin1_0 13 rfl rfl)
theorem dJ9_isLatin1_14 : decode cJ9_isLatin1 14 = .ok (.goto 4, 3) := dk_167 0 4 (dk_at dksJ9_isLatin1_0 14 rfl rfl)
theorem dJ9_isLatin1_17 : decode cJ9_isLatin1 17 = .ok (.iconst 0, 1) := dk_3 (dk_at dksJ9_isLatin1_0 17 rfl rfl)
theorem dJ9_isLatin1_18 : decode cJ9_isLatin1 18 = .ok (.ireturn, 1) := dk_172 (dk_at dksJ9_isLatin1_0 18 rfl rfl)
abbrev cJ9_equals : ByteArray := prog_36_method_66_code
def yJ9_equals : MethodName := ⟨RJ9, "equals", "(Ljava/lang/Object;)Z"⟩
def dkwJ9_equals_2 : List UInt8 := [184, 2, 29, 153, 0, 7, 4, 167, 0, 4, 3, 172]
abbrev dktJ9_equals_2 : List UInt8 := dkwJ9_equals_2 ++ []
def dkwJ9_equals_1 : List UInt8 := [153, 0, 14, 42, 180, 0, 15, 44, 180, 0, 15, 160, 0, 21, 42, 180, 0, 9, 44, 180, 0, 9]
abbrev dktJ9_equals_1 : List UInt8 := dkwJ9_equals_1 ++ dktJ9_equals_2
def dkwJ9_equals_0 : List UInt8 := [42, 43, 166, 0, 5, 4, 172, 43, 193, 0, 10, 153, 0, 43, 43, 192, 0, 10, 77, 178, 0, 38]
abbrev dktJ9_equals_0 : List UInt8 := dkwJ9_equals_0 ++ dktJ9_equals_1
theorem dksJ9_equals_0 : cJ9_equals.data.toList.drop 0 = dktJ9_equals_0 := by decide +kernel
theorem dksJ9_equals_1 : cJ9_equals.data.toList.drop 22 = dktJ9_equals_1 := dk_seg dksJ9_equals_0 22 rfl rfl
theorem dksJ9_equals_2 : cJ9_equals.data.toList.drop 44 = dktJ9_equals_2 := dk_seg dksJ9_equals_1 22 rfl rfl
theorem dJ9_equals_0 : decode cJ9_equals 0 = .ok (.aload_n 0, 1) := dk_42 (dk_at dksJ9_equals_0 0 rfl rfl)
theorem dJ9_equals_1 : decode cJ9_equals 1 = .ok (.aload_n 1, 1) := dk_43 (dk_at dksJ9_equals_0 1 rfl rfl)
theorem dJ9_equals_2 : decode cJ9_equals 2 = .ok (.if_acmp .ne 5, 3) := dk_166 0 5 (dk_at dksJ9_equals_0 2 rfl rfl)
theorem dJ9_equals_5 : decode cJ9_equals 5 = .ok (.iconst 1, 1) := dk_4 (dk_at dksJ9_equals_0 5 rfl rfl)
theorem dJ9_equals_6 : decode cJ9_equals 6 = .ok (.ireturn, 1) := dk_172 (dk_at dksJ9_equals_0 6 rfl rfl)
theorem dJ9_equals_7 : decode cJ9_equals 7 = .ok (.aload_n 1, 1) := dk_43 (dk_at dksJ9_equals_0 7 rfl rfl)
theorem dJ9_equals_8 : decode cJ9_equals 8 = .ok (.instanceof 10, 3) := dk_193 0 10 (dk_at dksJ9_equals_0 8 rfl rfl)
theorem dJ9_equals_11 : decode cJ9_equals 11 = .ok (.ifCond .eq 43, 3) := dk_153 0 43 (dk_at dksJ9_equals_0 11 rfl rfl)
theorem dJ9_equals_14 : decode cJ9_equals 14 = .ok (.aload_n 1, 1) := dk_43 (dk_at dksJ9_equals_0 14 rfl rfl)
theorem dJ9_equals_15 : decode cJ9_equals 15 = .ok (.checkcast 10, 3) := dk_192 0 10 (dk_at dksJ9_equals_0 15 rfl rfl)
theorem dJ9_equals_18 : decode cJ9_equals 18 = .ok (.astore_n 2, 1) := dk_77 (dk_at dksJ9_equals_0 18 rfl rfl)
theorem dJ9_equals_19 : decode cJ9_equals 19 = .ok (.getstatic 38, 3) := dk_178 0 38 (dk_at dksJ9_equals_0 19 rfl rfl)
theorem dJ9_equals_22 : decode cJ9_equals 22 = .ok (.ifCond .eq 14, 3) := dk_153 0 14 (dk_at dksJ9_equals_1 0 rfl rfl)
theorem dJ9_equals_25 : decode cJ9_equals 25 = .ok (.aload_n 0, 1) := dk_42 (dk_at dksJ9_equals_1 3 rfl rfl)
theorem dJ9_equals_26 : decode cJ9_equals 26 = .ok (.getfield 15, 3) := dk_180 0 15 (dk_at dksJ9_equals_1 4 rfl rfl)
theorem dJ9_equals_29 : decode cJ9_equals 29 = .ok (.aload_n 2, 1) := dk_44 (dk_at dksJ9_equals_1 7 rfl rfl)
theorem dJ9_equals_30 : decode cJ9_equals 30 = .ok (.getfield 15, 3) := dk_180 0 15 (dk_at dksJ9_equals_1 8 rfl rfl)
theorem dJ9_equals_33 : decode cJ9_equals 33 = .ok (.if_icmp .ne 21, 3) := dk_160 0 21 (dk_at dksJ9_equals_1 11 rfl rfl)
theorem dJ9_equals_36 : decode cJ9_equals 36 = .ok (.aload_n 0, 1) := dk_42 (dk_at dksJ9_equals_1 14 rfl rfl)
theorem dJ9_equals_37 : decode cJ9_equals 37 = .ok (.getfield 9, 3) := dk_180 0 9 (dk_at dksJ9_equals_1 15 rfl rfl)
theorem dJ9_equals_40 : decode cJ9_equals 40 = .ok (.aload_n 2, 1) := dk_44 (dk_at dksJ9_equals_1 18 rfl rfl)
theorem dJ9_equals_41 : decode cJ9_equals 41 = .ok (.getfield 9, 3) := dk_180 0 9 (dk_at dksJ9_equals_1 19 rfl rfl)
theorem dJ9_equals_44 : decode cJ9_equals 44 = .ok (.invokestatic 541, 3) := dk_184 2 29 (dk_at dksJ9_equals_2 0 rfl rfl)
theorem dJ9_equals_47 : decode cJ9_equals 47 = .ok (.ifCond .eq 7, 3) := dk_153 0 7 (dk_at dksJ9_equals_2 3 rfl rfl)
theorem dJ9_equals_50 : decode cJ9_equals 50 = .ok (.iconst 1, 1) := dk_4 (dk_at dksJ9_equals_2 6 rfl rfl)
theorem dJ9_equals_51 : decode cJ9_equals 51 = .ok (.goto 4, 3) := dk_167 0 4 (dk_at dksJ9_equals_2 7 rfl rfl)
theorem dJ9_equals_54 : decode cJ9_equals 54 = .ok (.iconst 0, 1) := dk_3 (dk_at dksJ9_equals_2 10 rfl rfl)
theorem dJ9_equals_55 : decode cJ9_equals 55 = .ok (.ireturn, 1) := dk_172 (dk_at dksJ9_equals_2 11 rfl rfl)
abbrev cJ9_length : ByteArray := prog_36_method_54_code
def yJ9_length : MethodName := ⟨RJ9, "length", "()I"⟩
def dkwJ9_length_0 : List UInt8 := [42, 180, 0, 9, 190, 42, 182, 1, 79, 122, 172]
abbrev dktJ9_length_0 : List UInt8 := dkwJ9_length_0 ++ []
theorem dksJ9_length_0 : cJ9_length.data.toList.drop 0 = dktJ9_length_0 := by decide +kernel
theorem dJ9_length_0 : decode cJ9_length 0 = .ok (.aload_n 0, 1) := dk_42 (dk_at dksJ9_length_0 0 rfl rfl)
theorem dJ9_length_1 : decode cJ9_length 1 = .ok (.getfield 9, 3) := dk_180 0 9 (dk_at dksJ9_length_0 1 rfl rfl)
theorem dJ9_length_4 : decode cJ9_length 4 = .ok (.arraylength, 1) := dk_190 (dk_at dksJ9_length_0 4 rfl rfl)
theorem dJ9_length_5 : decode cJ9_length 5 = .ok (.aload_n 0, 1) := dk_42 (dk_at dksJ9_length_0 5 rfl rfl)
theorem dJ9_length_6 : decode cJ9_length 6 = .ok (.invokevirtual 335, 3) := dk_182 1 79 (dk_at dksJ9_length_0 6 rfl rfl)
theorem dJ9_length_9 : decode cJ9_length 9 = .ok (.ishr, 1) := dk_122 (dk_at dksJ9_length_0 9 rfl rfl)
theorem dJ9_length_10 : decode cJ9_length 10 = .ok (.ireturn, 1) := dk_172 (dk_at dksJ9_length_0 10 rfl rfl)
abbrev cJ9_coder : ByteArray := prog_36_method_152_code
def yJ9_coder : MethodName := ⟨RJ9, "coder", "()B"⟩
def dkwJ9_coder_0 : List UInt8 := [178, 0, 38, 153, 0, 10, 42, 180, 0, 15, 167, 0, 4, 4, 172]
abbrev dktJ9_coder_0 : List UInt8 := dkwJ9_coder_0 ++ []
theorem dksJ9_coder_0 : cJ9_coder.data.toList.drop 0 = dktJ9_coder_0 := by decide +kernel
theorem dJ9_coder_0 : decode cJ9_coder 0 = .ok (.getstatic 38, 3) := dk_178 0 38 (dk_at dksJ9_coder_0 0 rfl rfl)
theorem dJ9_coder_3 : decode cJ9_coder 3 = .ok (.ifCond .eq 10, 3) := dk_153 0 10 (dk_at dksJ9_coder_0 3 rfl rfl)
theorem dJ9_coder_6 : decode cJ9_coder 6 = .ok (.aload_n 0, 1) := dk_42 (dk_at dksJ9_coder_0 6 rfl rfl)
theorem dJ9_coder_7 : decode cJ9_coder 7 = .ok (.getfield 15, 3) := dk_180 0 15 (dk_at dksJ9_coder_0 7 rfl rfl)
theorem dJ9_coder_10 : decode cJ9_coder 10 = .ok (.goto 4, 3) := dk_167 0 4 (dk_at dksJ9_coder_0 10 rfl rfl)
theorem dJ9_coder_13 : decode cJ9_coder 13 = .ok (.iconst 1, 1) := dk_4 (dk_at dksJ9_coder_0 13 rfl rfl)
theorem dJ9_coder_14 : decode cJ9_coder 14 = .ok (.ireturn, 1) := dk_172 (dk_at dksJ9_coder_0 14 rfl rfl)
abbrev cJ9_checkIndex : ByteArray := prog_36_method_155_code
def yJ9_checkIndex : MethodName := ⟨RJ9, "checkIndex", "(II)V"⟩
def dkwJ9_checkIndex_0 : List UInt8 := [26, 27, 178, 4, 29, 184, 4, 35, 87, 177]
abbrev dktJ9_checkIndex_0 : List UInt8 := dkwJ9_checkIndex_0 ++ []
theorem dksJ9_checkIndex_0 : cJ9_checkIndex.data.toList.drop 0 = dktJ9_checkIndex_0 := by decide +kernel
theorem dJ9_checkIndex_0 : decode cJ9_checkIndex 0 = .ok (.iload_n 0, 1) := dk_26 (dk_at dksJ9_checkIndex_0 0 rfl rfl)
theorem dJ9_checkIndex_1 : decode cJ9_checkIndex 1 = .ok (.iload_n 1, 1) := dk_27 (dk_at dksJ9_checkIndex_0 1 rfl rfl)
theorem dJ9_checkIndex_2 : decode cJ9_checkIndex 2 = .ok (.getstatic 1053, 3) := dk_178 4 29 (dk_at dksJ9_checkIndex_0 2 rfl rfl)
theorem dJ9_checkIndex_5 : decode cJ9_checkIndex 5 = .ok (.invokestatic 1059, 3) := dk_184 4 35 (dk_at dksJ9_checkIndex_0 5 rfl rfl)
theorem dJ9_checkIndex_8 : decode cJ9_checkIndex 8 = .ok (.pop, 1) := dk_87 (dk_at dksJ9_checkIndex_0 8 rfl rfl)
theorem dJ9_checkIndex_9 : decode cJ9_checkIndex 9 = .ok (.return_, 1) := dk_177 (dk_at dksJ9_checkIndex_0 9 rfl rfl)
abbrev cJ9_charAt : ByteArray := prog_36_method_56_code
def yJ9_charAt : MethodName := ⟨RJ9, "charAt", "(I)C"⟩
def dkwJ9_charAt_1 : List UInt8 := [172]
abbrev dktJ9_charAt_1 : List UInt8 := dkwJ9_charAt_1 ++ []
def dkwJ9_charAt_0 : List UInt8 := [42, 182, 1, 236, 153, 0, 12, 42, 180, 0, 9, 27, 184, 1, 239, 172, 42, 180, 0, 9, 27, 184, 1, 242]
abbrev dktJ9_charAt_0 : List UInt8 := dkwJ9_charAt_0 ++ dktJ9_charAt_1
theorem dksJ9_charAt_0 : cJ9_charAt.data.toList.drop 0 = dktJ9_charAt_0 := by decide +kernel
theorem dksJ9_charAt_1 : cJ9_charAt.data.toList.drop 24 = dktJ9_charAt_1 := dk_seg dksJ9_charAt_0 24 rfl rfl
theorem dJ9_charAt_0 : decode cJ9_charAt 0 = .ok (.aload_n 0, 1) := dk_42 (dk_at dksJ9_charAt_0 0 rfl rfl)
theorem dJ9_charAt_1 : decode cJ9_charAt 1 = .ok (.invokevirtual 492, 3) := dk_182 1 236 (dk_at dksJ9_charAt_0 1 rfl rfl)
theorem dJ9_charAt_4 : decode cJ9_charAt 4 = .ok (.ifCond .eq 12, 3) := dk_153 0 12 (dk_at dksJ9_charAt_0 4 rfl rfl)
theorem dJ9_charAt_7 : decode cJ9_charAt 7 = .ok (.aload_n 0, 1) := dk_42 (dk_at dksJ9_charAt_0 7 rfl rfl)
theorem dJ9_charAt_8 : decode cJ9_charAt 8 = .ok (.getfield 9, 3) := dk_180 0 9 (dk_at dksJ9_charAt_0 8 rfl rfl)
theorem dJ9_charAt_11 : decode cJ9_charAt 11 = .ok (.iload_n 1, 1) := dk_27 (dk_at dksJ9_charAt_0 11 rfl rfl)
theorem dJ9_charAt_12 : decode cJ9_charAt 12 = .ok (.invokestatic 495, 3) := dk_184 1 239 (dk_at dksJ9_charAt_0 12 rfl rfl)
theorem dJ9_charAt_15 : decode cJ9_charAt 15 = .ok (.ireturn, 1) := dk_172 (dk_at dksJ9_charAt_0 15 rfl rfl)
theorem dJ9_charAt_16 : decode cJ9_charAt 16 = .ok (.aload_n 0, 1) := dk_42 (dk_at dksJ9_charAt_0 16 rfl rfl)
theorem dJ9_charAt_17 : decode cJ9_charAt 17 = .ok (.getfield 9, 3) := dk_180 0 9 (dk_at dksJ9_charAt_0 17 rfl rfl)
theorem dJ9_charAt_20 : decode cJ9_charAt 20 = .ok (.iload_n 1, 1) := dk_27 (dk_at dksJ9_charAt_0 20 rfl rfl)
theorem dJ9_charAt_21 : decode cJ9_charAt 21 = .ok (.invokestatic 498, 3) := dk_184 1 242 (dk_at dksJ9_charAt_0 21 rfl rfl)
theorem dJ9_charAt_24 : decode cJ9_charAt 24 = .ok (.ireturn, 1) := dk_172 (dk_at dksJ9_charAt_1 0 rfl rfl)
theorem q183 : (Jvm.Cond.initialized "java/lang/String") ∈ lw_all := lw_g (lw_at lw_m1 17 rfl) rfl
theorem q650 : (Jvm.Cond.static ({ cls := "java/lang/String", name := "valueOf", desc := "([C)Ljava/lang/String;" } : Jvm.MethodName)) ∈ lw_all := lw_g (lw_at lw_m3 4 rfl) rfl
theorem q651 : (Jvm.Cond.code ({ cls := "java/lang/String", name := "valueOf", desc := "([C)Ljava/lang/String;" } : Jvm.MethodName) prog_36_method_134_code (1 : Nat) (Option.some (Jvm.ClassFile.FieldType.object "java/lang/String"))) ∈ lw_all := lw_g (lw_at lw_m3 5 rfl) rfl
theorem q652 : (Jvm.Cond.classLink "java/lang/String" (10 : Nat) "java/lang/String") ∈ lw_all := lw_g (lw_at lw_m3 6 rfl) rfl
theorem q653 : (Jvm.Cond.instantiable "java/lang/String" (4 : Nat)) ∈ lw_all := lw_g (lw_at lw_m3 7 rfl) rfl
theorem q654 : (Jvm.Cond.methodLink "java/lang/String" (1008 : Nat) ({ cls := "java/lang/String", name := "<init>", desc := "([C)V" } : Jvm.MethodName)) ∈ lw_all := lw_g (lw_at lw_m3 8 rfl) rfl
theorem q655 : (Jvm.Cond.instanceMethod ({ cls := "java/lang/String", name := "<init>", desc := "([C)V" } : Jvm.MethodName)) ∈ lw_all := lw_g (lw_at lw_m3 9 rfl) rfl
theorem q656 : (Jvm.Cond.code ({ cls := "java/lang/String", name := "<init>", desc := "([C)V" } : Jvm.MethodName) prog_36_method_3_code (2 : Nat) (Option.none : Option Jvm.ClassFile.FieldType)) ∈ lw_all := lw_g (lw_at lw_m3 10 rfl) rfl
theorem q657 : (Jvm.Cond.methodLink "java/lang/String" (27 : Nat) ({ cls := "java/lang/String", name := "<init>", desc := "([CIILjava/lang/Void;)V" } : Jvm.MethodName)) ∈ lw_all := lw_g (lw_at lw_m3 11 rfl) rfl
theorem q658 : (Jvm.Cond.instanceMethod ({ cls := "java/lang/String", name := "<init>", desc := "([CIILjava/lang/Void;)V" } : Jvm.MethodName)) ∈ lw_all := lw_g (lw_at lw_m3 12 rfl) rfl
theorem q659 : (Jvm.Cond.code ({ cls := "java/lang/String", name := "<init>", desc := "([CIILjava/lang/Void;)V" } : Jvm.MethodName) prog_36_method_149_code (6 : Nat) (Option.none : Option Jvm.ClassFile.FieldType)) ∈ lw_all := lw_g (lw_at lw_m3 13 rfl) rfl
theorem q660 : (Jvm.Cond.methodLink "java/lang/String" (1 : Nat) ({ cls := "java/lang/Object", name := "<init>", desc := "()V" } : Jvm.MethodName)) ∈ lw_all := lw_g (lw_at lw_m3 14 rfl) rfl
theorem q661 : (Jvm.Cond.stringRef "java/lang/String" (7 : Nat) "") ∈ lw_tbl := lw_at lw_m3 15 rfl
theorem q662 : (Jvm.Cond.fieldLink "java/lang/String" (38 : Nat) "java/lang/String" "COMPACT_STRINGS" "Z") ∈ lw_all := lw_g (lw_at lw_m3 16 rfl) rfl
theorem q663 : (Jvm.Cond.laysStatic "java/lang/String" "COMPACT_STRINGS" "Z") ∈ lw_tbl := lw_at lw_m3 17 rfl
theorem q664 : (Jvm.Cond.methodLink "java/lang/String" (177 : Nat) ({ cls := "java/lang/StringUTF16", name := "compress", desc := "([CII)[B" } : Jvm.MethodName)) ∈ lw_all := lw_g (lw_at lw_m3 18 rfl) rfl
theorem q702 : (Jvm.Cond.static ({ cls := "java/lang/String", name := "checkBoundsOffCount", desc := "(III)I" } : Jvm.MethodName)) ∈ lw_all := lw_g (lw_at lw_m3 56 rfl) rfl
theorem q703 : (Jvm.Cond.code ({ cls := "java/lang/String", name := "checkBoundsOffCount", desc := "(III)I" } : Jvm.MethodName) prog_36_method_157_code (3 : Nat) (Option.some Jvm.ClassFile.FieldType.int)) ∈ lw_all := lw_g (lw_at lw_m3 57 rfl) rfl
theorem q704 : (Jvm.Cond.fieldLink "java/lang/String" (1053 : Nat) "jdk/internal/util/Preconditions" "SIOOBE_FORMATTER" "Ljava/util/function/BiFunction;") ∈ lw_all := lw_g (lw_at lw_m3 58 rfl) rfl
theorem q706 : (Jvm.Cond.methodLink "java/lang/String" (1065 : Nat) ({ cls := "jdk/internal/util/Preconditions", name := "checkFromIndexSize", desc := "(IIILjava/util/function/BiFunction;)I" } : Jvm.MethodName)) ∈ lw_all := lw_g (lw_at lw_m3 60 rfl) rfl
theorem q709 : (Jvm.Cond.methodLink "java/lang/String" (47 : Nat) ({ cls := "java/lang/StringUTF16", name := "coderFromArrayLen", desc := "([BI)B" } : Jvm.MethodName)) ∈ lw_all := lw_g (lw_at lw_m3 63 rfl) rfl
theorem q712 : (Jvm.Cond.methodLink "java/lang/String" (180 : Nat) ({ cls := "java/lang/StringUTF16", name := "toBytes", desc := "([CII)[B" } : Jvm.MethodName)) ∈ lw_all := lw_g (lw_at lw_m3 66 rfl) rfl
theorem q713 : (Jvm.Cond.fieldLink "java/lang/String" (9 : Nat) "java/lang/String" "value" "[B") ∈ lw_all := lw_g (lw_at lw_m3 67 rfl) rfl
theorem q714 : (Jvm.Cond.fieldLink "java/lang/String" (15 : Nat) "java/lang/String" "coder" "B") ∈ lw_all := lw_g (lw_at lw_m3 68 rfl) rfl
theorem q715 : (Jvm.Cond.fieldLink "java/lang/String" (19 : Nat) "java/lang/String" "hash" "I") ∈ lw_all := lw_g (lw_at lw_m3 69 rfl) rfl
theorem q716 : (Jvm.Cond.fieldLink "java/lang/String" (23 : Nat) "java/lang/String" "hashIsZero" "Z") ∈ lw_all := lw_g (lw_at lw_m3 70 rfl) rfl
theorem q717 : (Jvm.Cond.laysFinal "java/lang/String" "java/lang/String" "value" "[B") ∈ lw_all := lw_g (lw_at lw_m3 71 rfl) rfl
theorem q718 : (Jvm.Cond.soleField "java/lang/String" "value") ∈ lw_all := lw_g (lw_at lw_m3 72 rfl) rfl
theorem q719 : (Jvm.Cond.laysFinal "java/lang/String" "java/lang/String" "coder" "B") ∈ lw_all := lw_g (lw_at lw_m3 73 rfl) rfl
theorem q720 : (Jvm.Cond.soleField "java/lang/String" "coder") ∈ lw_all := lw_g (lw_at lw_m3 74 rfl) rfl
theorem q721 : (Jvm.Cond.lays "java/lang/String" "java/lang/String" "hash" "I") ∈ lw_all := lw_g (lw_at lw_m3 75 rfl) rfl
theorem q722 : (Jvm.Cond.soleField "java/lang/String" "hash") ∈ lw_all := lw_g (lw_at lw_m3 76 rfl) rfl
theorem q723 : (Jvm.Cond.lays "java/lang/String" "java/lang/String" "hashIsZero" "Z") ∈ lw_all := lw_g (lw_at lw_m3 77 rfl) rfl
theorem q724 : (Jvm.Cond.soleField "java/lang/String" "hashIsZero") ∈ lw_all := lw_g (lw_at lw_m3 78 rfl) rfl
theorem q725 : (Jvm.Cond.superclass "java/lang/String" "java/lang/Object") ∈ lw_all := lw_g (lw_at lw_m3 79 rfl) rfl
theorem q732 : (Jvm.Cond.instanceMethod ({ cls := "java/lang/String", name := "hashCode", desc := "()I" } : Jvm.MethodName)) ∈ lw_all := lw_g (lw_at lw_m3 86 rfl) rfl
theorem q733 : (Jvm.Cond.selects "java/lang/String" ({ cls := "java/lang/String", name := "hashCode", desc := "()I" } : Jvm.MethodName) ({ cls := "java/lang/String", name := "hashCode", desc := "()I" } : Jvm.MethodName)) ∈ lw_all := lw_g (lw_at lw_m3 87 rfl) rfl
theorem q734 : (Jvm.Cond.code ({ cls := "java/lang/String", name := "hashCode", desc := "()I" } : Jvm.MethodName) prog_36_method_78_code (2 : Nat) (Option.some Jvm.ClassFile.FieldType.int)) ∈ lw_all := lw_g (lw_at lw_m3 88 rfl) rfl
theorem q735 : (Jvm.Cond.methodLink "java/lang/String" (492 : Nat) ({ cls := "java/lang/String", name := "isLatin1", desc := "()Z" } : Jvm.MethodName)) ∈ lw_all := lw_g (lw_at lw_m3 89 rfl) rfl
theorem q736 : (Jvm.Cond.instanceMethod ({ cls := "java/lang/String", name := "isLatin1", desc := "()Z" } : Jvm.MethodName)) ∈ lw_all := lw_g (lw_at lw_m3 90 rfl) rfl
theorem q737 : (Jvm.Cond.selects "java/lang/String" ({ cls := "java/lang/String", name := "isLatin1", desc := "()Z" } : Jvm.MethodName) ({ cls := "java/lang/String", name := "isLatin1", desc := "()Z" } : Jvm.MethodName)) ∈ lw_all := lw_g (lw_at lw_m3 91 rfl) rfl
theorem q738 : (Jvm.Cond.code ({ cls := "java/lang/String", name := "isLatin1", desc := "()Z" } : Jvm.MethodName) prog_36_method_154_code (1 : Nat) (Option.some Jvm.ClassFile.FieldType.boolean)) ∈ lw_all := lw_g (lw_at lw_m3 92 rfl) rfl
theorem q739 : (Jvm.Cond.methodLink "java/lang/String" (628 : Nat) ({ cls := "java/lang/StringLatin1", name := "hashCode", desc := "([B)I" } : Jvm.MethodName)) ∈ lw_all := lw_g (lw_at lw_m3 93 rfl) rfl
theorem q780 : (Jvm.Cond.methodLink "java/lang/String" (632 : Nat) ({ cls := "java/lang/StringUTF16", name := "hashCode", desc := "([B)I" } : Jvm.MethodName)) ∈ lw_all := lw_g (lw_at lw_m3 134 rfl) rfl
theorem q786 : (Jvm.Cond.instanceMethod ({ cls := "java/lang/String", name := "equals", desc := "(Ljava/lang/Object;)Z" } : Jvm.MethodName)) ∈ lw_all := lw_g (lw_at lw_m3 140 rfl) rfl
theorem q787 : (Jvm.Cond.selects "java/lang/String" ({ cls := "java/lang/String", name := "equals", desc := "(Ljava/lang/Object;)Z" } : Jvm.MethodName) ({ cls := "java/lang/String", name := "equals", desc := "(Ljava/lang/Object;)Z" } : Jvm.MethodName)) ∈ lw_all := lw_g (lw_at lw_m3 141 rfl) rfl
theorem q788 : (Jvm.Cond.code ({ cls := "java/lang/String", name := "equals", desc := "(Ljava/lang/Object;)Z" } : Jvm.MethodName) prog_36_method_66_code (3 : Nat) (Option.some Jvm.ClassFile.FieldType.boolean)) ∈ lw_all := lw_g (lw_at lw_m3 142 rfl) rfl
theorem q789 : (Jvm.Cond.methodLink "java/lang/String" (541 : Nat) ({ cls := "java/lang/StringLatin1", name := "equals", desc := "([B[B)Z" } : Jvm.MethodName)) ∈ lw_all := lw_g (lw_at lw_m3 143 rfl) rfl
theorem q815 : (Jvm.Cond.instanceMethod ({ cls := "java/lang/String", name := "length", desc := "()I" } : Jvm.MethodName)) ∈ lw_all := lw_g (lw_at lw_m3 169 rfl) rfl
theorem q816 : (Jvm.Cond.selects "java/lang/String" ({ cls := "java/lang/String", name := "length", desc := "()I" } : Jvm.MethodName) ({ cls := "java/lang/String", name := "length", desc := "()I" } : Jvm.MethodName)) ∈ lw_all := lw_g (lw_at lw_m3 170 rfl) rfl
theorem q817 : (Jvm.Cond.code ({ cls := "java/lang/String", name := "length", desc := "()I" } : Jvm.MethodName) prog_36_method_54_code (1 : Nat) (Option.some Jvm.ClassFile.FieldType.int)) ∈ lw_all := lw_g (lw_at lw_m3 171 rfl) rfl
theorem q818 : (Jvm.Cond.methodLink "java/lang/String" (335 : Nat) ({ cls := "java/lang/String", name := "coder", desc := "()B" } : Jvm.MethodName)) ∈ lw_all := lw_g (lw_at lw_m3 172 rfl) rfl
theorem q819 : (Jvm.Cond.instanceMethod ({ cls := "java/lang/String", name := "coder", desc := "()B" } : Jvm.MethodName)) ∈ lw_all := lw_g (lw_at lw_m3 173 rfl) rfl
theorem q820 : (Jvm.Cond.selects "java/lang/String" ({ cls := "java/lang/String", name := "coder", desc := "()B" } : Jvm.MethodName) ({ cls := "java/lang/String", name := "coder", desc := "()B" } : Jvm.MethodName)) ∈ lw_all := lw_g (lw_at lw_m3 174 rfl) rfl
theorem q821 : (Jvm.Cond.code ({ cls := "java/lang/String", name := "coder", desc := "()B" } : Jvm.MethodName) prog_36_method_152_code (1 : Nat) (Option.some Jvm.ClassFile.FieldType.byte)) ∈ lw_all := lw_g (lw_at lw_m3 175 rfl) rfl
theorem q903 : (Jvm.Cond.selects "java/lang/String" ({ cls := "java/lang/Object", name := "getClass", desc := "()Ljava/lang/Class;" } : Jvm.MethodName) ({ cls := "java/lang/Object", name := "getClass", desc := "()Ljava/lang/Class;" } : Jvm.MethodName)) ∈ lw_all := lw_g (lw_at lw_m4 17 rfl) rfl
theorem q1216 : (Jvm.Cond.static ({ cls := "java/lang/String", name := "checkIndex", desc := "(II)V" } : Jvm.MethodName)) ∈ lw_all := lw_g (lw_at lw_m5 90 rfl) rfl
theorem q1217 : (Jvm.Cond.code ({ cls := "java/lang/String", name := "checkIndex", desc := "(II)V" } : Jvm.MethodName) prog_36_method_155_code (2 : Nat) (Option.none : Option Jvm.ClassFile.FieldType)) ∈ lw_all := lw_g (lw_at lw_m5 91 rfl) rfl
theorem q1218 : (Jvm.Cond.methodLink "java/lang/String" (1059 : Nat) ({ cls := "jdk/internal/util/Preconditions", name := "checkIndex", desc := "(IILjava/util/function/BiFunction;)I" } : Jvm.MethodName)) ∈ lw_all := lw_g (lw_at lw_m5 92 rfl) rfl
theorem q1356 : (Jvm.Cond.instanceMethod ({ cls := "java/lang/String", name := "charAt", desc := "(I)C" } : Jvm.MethodName)) ∈ lw_all := lw_g (lw_at lw_m5 230 rfl) rfl
theorem q1357 : (Jvm.Cond.selects "java/lang/String" ({ cls := "java/lang/String", name := "charAt", desc := "(I)C" } : Jvm.MethodName) ({ cls := "java/lang/String", name := "charAt", desc := "(I)C" } : Jvm.MethodName)) ∈ lw_all := lw_g (lw_at lw_m5 231 rfl) rfl
theorem q1358 : (Jvm.Cond.code ({ cls := "java/lang/String", name := "charAt", desc := "(I)C" } : Jvm.MethodName) prog_36_method_56_code (2 : Nat) (Option.some Jvm.ClassFile.FieldType.char)) ∈ lw_all := lw_g (lw_at lw_m5 232 rfl) rfl
theorem q1359 : (Jvm.Cond.methodLink "java/lang/String" (495 : Nat) ({ cls := "java/lang/StringLatin1", name := "charAt", desc := "([BI)C" } : Jvm.MethodName)) ∈ lw_all := lw_g (lw_at lw_m5 233 rfl) rfl
theorem q1363 : (Jvm.Cond.methodLink "java/lang/String" (498 : Nat) ({ cls := "java/lang/StringUTF16", name := "charAt", desc := "([BI)C" } : Jvm.MethodName)) ∈ lw_all := lw_g (lw_at lw_m5 237 rfl) rfl
theorem q2673 : (Jvm.Cond.castable "java/lang/String" "java/lang/Object") ∈ lw_tbl := lw_at lw_m11 107 rfl
theorem in_J9 : ∀ w ∈ wsJ90, w ∈ lw_all := lw_in wsJ90 [717, 719, 721, 723] (by decide +kernel) (by decide +kernel)
