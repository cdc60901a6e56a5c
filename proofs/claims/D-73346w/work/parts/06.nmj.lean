/-! java/util/AbstractCollection -/
set_option maxRecDepth 100000
def RJ0 : String := "java/util/AbstractCollection"
abbrev cJ0_init : ByteArray := prog_48_method_1_code
def yJ0_init : MethodName := ⟨RJ0, "<init>", "()V"⟩
theorem dJ0_init_0 : decode cJ0_init 0 = .ok (.aload_n 0, 1) := by decide +kernel
theorem dJ0_init_1 : decode cJ0_init 1 = .ok (.invokespecial 1, 3) := by decide +kernel
theorem dJ0_init_4 : decode cJ0_init 4 = .ok (.return_, 1) := by decide +kernel
theorem q128 : (Jvm.Cond.initialized "java/util/AbstractCollection") ∈ lw_all := lw_g (lw_at lw_m1 3 rfl) rfl
theorem q197 : (Jvm.Cond.instanceMethod ({ cls := "java/util/AbstractCollection", name := "<init>", desc := "()V" } : Jvm.MethodName)) ∈ lw_all := lw_g (lw_at lw_m1 72 rfl) rfl
theorem q198 : (Jvm.Cond.code ({ cls := "java/util/AbstractCollection", name := "<init>", desc := "()V" } : Jvm.MethodName) prog_48_method_1_code (1 : Nat) (Option.none : Option Jvm.ClassFile.FieldType)) ∈ lw_all := lw_g (lw_at lw_m1 73 rfl) rfl
theorem q199 : (Jvm.Cond.methodLink "java/util/AbstractCollection" (1 : Nat) ({ cls := "java/lang/Object", name := "<init>", desc := "()V" } : Jvm.MethodName)) ∈ lw_all := lw_g (lw_at lw_m1 74 rfl) rfl

/-! java/util/AbstractList -/
set_option maxRecDepth 100000
def RJ1 : String := "java/util/AbstractList"
abbrev cJ1_init : ByteArray := prog_49_method_1_code
def yJ1_init : MethodName := ⟨RJ1, "<init>", "()V"⟩
def dkwJ1_init_0 : List UInt8 := [42, 183, 0, 1, 42, 3, 181, 0, 7, 177]
abbrev dktJ1_init_0 : List UInt8 := dkwJ1_init_0 ++ []
theorem dksJ1_init_0 : cJ1_init.data.toList.drop 0 = dktJ1_init_0 := by decide +kernel
theorem dJ1_init_0 : decode cJ1_init 0 = .ok (.aload_n 0, 1) := dk_42 (dk_at dksJ1_init_0 0 rfl rfl)
theorem dJ1_init_1 : decode cJ1_init 1 = .ok (.invokespecial 1, 3) := dk_183 0 1 (dk_at dksJ1_init_0 1 rfl rfl)
theorem dJ1_init_4 : decode cJ1_init 4 = .ok (.aload_n 0, 1) := dk_42 (dk_at dksJ1_init_0 4 rfl rfl)
theorem dJ1_init_5 : decode cJ1_init 5 = .ok (.iconst 0, 1) := dk_3 (dk_at dksJ1_init_0 5 rfl rfl)
theorem dJ1_init_6 : decode cJ1_init 6 = .ok (.putfield 7, 3) := dk_181 0 7 (dk_at dksJ1_init_0 6 rfl rfl)
theorem dJ1_init_9 : decode cJ1_init 9 = .ok (.return_, 1) := dk_177 (dk_at dksJ1_init_0 9 rfl rfl)
theorem q129 : (Jvm.Cond.initialized "java/util/AbstractList") ∈ lw_all := lw_g (lw_at lw_m1 4 rfl) rfl
theorem q194 : (Jvm.Cond.instanceMethod ({ cls := "java/util/AbstractList", name := "<init>", desc := "()V" } : Jvm.MethodName)) ∈ lw_all := lw_g (lw_at lw_m1 69 rfl) rfl
theorem q195 : (Jvm.Cond.code ({ cls := "java/util/AbstractList", name := "<init>", desc := "()V" } : Jvm.MethodName) prog_49_method_1_code (1 : Nat) (Option.none : Option Jvm.ClassFile.FieldType)) ∈ lw_all := lw_g (lw_at lw_m1 70 rfl) rfl
theorem q196 : (Jvm.Cond.methodLink "java/util/AbstractList" (1 : Nat) ({ cls := "java/util/AbstractCollection", name := "<init>", desc := "()V" } : Jvm.MethodName)) ∈ lw_all := lw_g (lw_at lw_m1 71 rfl) rfl
theorem q208 : (Jvm.Cond.fieldLink "java/util/AbstractList" (7 : Nat) "java/util/AbstractList" "modCount" "I") ∈ lw_all := lw_g (lw_at lw_m1 83 rfl) rfl
theorem q217 : (Jvm.Cond.soleField "java/util/AbstractList" "modCount") ∈ lw_all := lw_g (lw_at lw_m1 92 rfl) rfl

/-! java/util/Arrays -/
set_option maxRecDepth 100000
def RJ10 : String := "java/util/Arrays"
abbrev cJ10_copyOf : ByteArray := prog_52_method_121_code
def yJ10_copyOf : MethodName := ⟨RJ10, "copyOf", "([BI)[B"⟩
def dkwJ10_copyOf_1 : List UInt8 := [27, 184, 1, 48, 184, 0, 150, 44, 176]
abbrev dktJ10_copyOf_1 : List UInt8 := dkwJ10_copyOf_1 ++ []
def dkwJ10_copyOf_0 : List UInt8 := [27, 42, 190, 160, 0, 11, 42, 182, 1, 54, 192, 1, 55, 176, 27, 188, 8, 77, 42, 3, 44, 3, 42, 190]
abbrev dktJ10_copyOf_0 : List UInt8 := dkwJ10_copyOf_0 ++ dktJ10_copyOf_1
theorem dksJ10_copyOf_0 : cJ10_copyOf.data.toList.drop 0 = dktJ10_copyOf_0 := by decide +kernel
theorem dksJ10_copyOf_1 : cJ10_copyOf.data.toList.drop 24 = dktJ10_copyOf_1 := dk_seg dksJ10_copyOf_0 24 rfl rfl
theorem dJ10_copyOf_0 : decode cJ10_copyOf 0 = .ok (.iload_n 1, 1) := dk_27 (dk_at dksJ10_copyOf_0 0 rfl rfl)
theorem dJ10_copyOf_1 : decode cJ10_copyOf 1 = .ok (.aload_n 0, 1) := dk_42 (dk_at dksJ10_copyOf_0 1 rfl rfl)
theorem dJ10_copyOf_2 : decode cJ10_copyOf 2 = .ok (.arraylength, 1) := dk_190 (dk_at dksJ10_copyOf_0 2 rfl rfl)
theorem dJ10_copyOf_3 : decode cJ10_copyOf 3 = .ok (.if_icmp .ne 11, 3) := dk_160 0 11 (dk_at dksJ10_copyOf_0 3 rfl rfl)
theorem dJ10_copyOf_6 : decode cJ10_copyOf 6 = .ok (.aload_n 0, 1) := dk_42 (dk_at dksJ10_copyOf_0 6 rfl rfl)
theorem dJ10_copyOf_7 : decode cJ10_copyOf 7 = .ok (.invokevirtual 310, 3) := dk_182 1 54 (dk_at dksJ10_copyOf_0 7 rfl rfl)
theorem dJ10_copyOf_10 : decode cJ10_copyOf 10 = .ok (.checkcast 311, 3) := dk_192 1 55 (dk_at dksJ10_copyOf_0 10 rfl rfl)
theorem dJ10_copyOf_13 : decode cJ10_copyOf 13 = .ok (.areturn, 1) := dk_176 (dk_at dksJ10_copyOf_0 13 rfl rfl)
theorem dJ10_copyOf_14 : decode cJ10_copyOf 14 = .ok (.iload_n 1, 1) := dk_27 (dk_at dksJ10_copyOf_0 14 rfl rfl)
theorem dJ10_copyOf_15 : decode cJ10_copyOf 15 = .ok (.newarray .byte, 2) := dk_188_8 (dk_at dksJ10_copyOf_0 15 rfl rfl)
theorem dJ10_copyOf_17 : decode cJ10_copyOf 17 = .ok (.astore_n 2, 1) := dk_77 (dk_at dksJ10_copyOf_0 17 rfl rfl)
theorem dJ10_copyOf_18 : decode cJ10_copyOf 18 = .ok (.aload_n 0, 1) := dk_42 (dk_at dksJ10_copyOf_0 18 rfl rfl)
theorem dJ10_copyOf_19 : decode cJ10_copyOf 19 = .ok (.iconst 0, 1) := dk_3 (dk_at dksJ10_copyOf_0 19 rfl rfl)
theorem dJ10_copyOf_20 : decode cJ10_copyOf 20 = .ok (.aload_n 2, 1) := dk_44 (dk_at dksJ10_copyOf_0 20 rfl rfl)
theorem dJ10_copyOf_21 : decode cJ10_copyOf 21 = .ok (.iconst 0, 1) := dk_3 (dk_at dksJ10_copyOf_0 21 rfl rfl)
theorem dJ10_copyOf_22 : decode cJ10_copyOf 22 = .ok (.aload_n 0, 1) := dk_42 (dk_at dksJ10_copyOf_0 22 rfl rfl)
theorem dJ10_copyOf_23 : decode cJ10_copyOf 23 = .ok (.arraylength, 1) := dk_190 (dk_at dksJ10_copyOf_0 23 rfl rfl)
theorem dJ10_copyOf_24 : decode cJ10_copyOf 24 = .ok (.iload_n 1, 1) := dk_27 (dk_at dksJ10_copyOf_1 0 rfl rfl)
theorem dJ10_copyOf_25 : decode cJ10_copyOf 25 = .ok (.invokestatic 304, 3) := dk_184 1 48 (dk_at dksJ10_copyOf_1 1 rfl rfl)
theorem dJ10_copyOf_28 : decode cJ10_copyOf 28 = .ok (.invokestatic 150, 3) := dk_184 0 150 (dk_at dksJ10_copyOf_1 4 rfl rfl)
theorem dJ10_copyOf_31 : decode cJ10_copyOf 31 = .ok (.aload_n 2, 1) := dk_44 (dk_at dksJ10_copyOf_1 7 rfl rfl)
theorem dJ10_copyOf_32 : decode cJ10_copyOf 32 = .ok (.areturn, 1) := dk_176 (dk_at dksJ10_copyOf_1 8 rfl rfl)
abbrev cJ10_copyOfRange : ByteArray := prog_52_method_132_code
def yJ10_copyOfRange : MethodName := ⟨RJ10, "copyOfRange", "([BII)[B"⟩
def dkwJ10_copyOfRange_1 : List UInt8 := [176]
abbrev dktJ10_copyOfRange_1 : List UInt8 := dkwJ10_copyOfRange_1 ++ []
def dkwJ10_copyOfRange_0 : List UInt8 := [27, 154, 0, 9, 28, 42, 190, 159, 0, 10, 42, 27, 28, 184, 1, 83, 176, 42, 182, 1, 54, 192, 1, 55]
abbrev dktJ10_copyOfRange_0 : List UInt8 := dkwJ10_copyOfRange_0 ++ dktJ10_copyOfRange_1
theorem dksJ10_copyOfRange_0 : cJ10_copyOfRange.data.toList.drop 0 = dktJ10_copyOfRange_0 := by decide +kernel
theorem dksJ10_copyOfRange_1 : cJ10_copyOfRange.data.toList.drop 24 = dktJ10_copyOfRange_1 := dk_seg dksJ10_copyOfRange_0 24 rfl rfl
theorem dJ10_copyOfRange_0 : decode cJ10_copyOfRange 0 = .ok (.iload_n 1, 1) := dk_27 (dk_at dksJ10_copyOfRange_0 0 rfl rfl)
theorem dJ10_copyOfRange_1 : decode cJ10_copyOfRange 1 = .ok (.ifCond .ne 9, 3) := dk_154 0 9 (dk_at dksJ10_copyOfRange_0 1 rfl rfl)
theorem dJ10_copyOfRange_4 : decode cJ10_copyOfRange 4 = .ok (.iload_n 2, 1) := dk_28 (dk_at dksJ10_copyOfRange_0 4 rfl rfl)
theorem dJ10_copyOfRange_5 : decode cJ10_copyOfRange 5 = .ok (.aload_n 0, 1) := dk_42 (dk_at dksJ10_copyOfRange_0 5 rfl rfl)
theorem dJ10_copyOfRange_6 : decode cJ10_copyOfRange 6 = .ok (.arraylength, 1) := dk_190 (dk_at dksJ10_copyOfRange_0 6 rfl rfl)
theorem dJ10_copyOfRange_7 : decode cJ10_copyOfRange 7 = .ok (.if_icmp .eq 10, 3) := dk_159 0 10 (dk_at dksJ10_copyOfRange_0 7 rfl rfl)
theorem dJ10_copyOfRange_10 : decode cJ10_copyOfRange 10 = .ok (.aload_n 0, 1) := dk_42 (dk_at dksJ10_copyOfRange_0 10 rfl rfl)
theorem dJ10_copyOfRange_11 : decode cJ10_copyOfRange 11 = .ok (.iload_n 1, 1) := dk_27 (dk_at dksJ10_copyOfRange_0 11 rfl rfl)
theorem dJ10_copyOfRange_12 : decode cJ10_copyOfRange 12 = .ok (.iload_n 2, 1) := dk_28 (dk_at dksJ10_copyOfRange_0 12 rfl rfl)
theorem dJ10_copyOfRange_13 : decode cJ10_copyOfRange 13 = .ok (.invokestatic 339, 3) := dk_184 1 83 (dk_at dksJ10_copyOfRange_0 13 rfl rfl)
theorem dJ10_copyOfRange_16 : decode cJ10_copyOfRange 16 = .ok (.areturn, 1) := dk_176 (dk_at dksJ10_copyOfRange_0 16 rfl rfl)
theorem dJ10_copyOfRange_17 : decode cJ10_copyOfRange 17 = .ok (.aload_n 0, 1) := dk_42 (dk_at dksJ10_copyOfRange_0 17 rfl rfl)
theorem dJ10_copyOfRange_18 : decode cJ10_copyOfRange 18 = .ok (.invokevirtual 310, 3) := dk_182 1 54 (dk_at dksJ10_copyOfRange_0 18 rfl rfl)
theorem dJ10_copyOfRange_21 : decode cJ10_copyOfRange 21 = .ok (.checkcast 311, 3) := dk_192 1 55 (dk_at dksJ10_copyOfRange_0 21 rfl rfl)
theorem dJ10_copyOfRange_24 : decode cJ10_copyOfRange 24 = .ok (.areturn, 1) := dk_176 (dk_at dksJ10_copyOfRange_1 0 rfl rfl)
abbrev cJ10_copyOfRangeByte : ByteArray := prog_52_method_133_code
def yJ10_copyOfRangeByte : MethodName := ⟨RJ10, "copyOfRangeByte", "([BII)[B"⟩
def dkwJ10_copyOfRangeByte_1 : List UInt8 := [184, 1, 48, 184, 0, 150, 25, 4, 176]
abbrev dktJ10_copyOfRangeByte_1 : List UInt8 := dkwJ10_copyOfRangeByte_1 ++ []
def dkwJ10_copyOfRangeByte_0 : List UInt8 := [27, 28, 184, 1, 87, 28, 27, 100, 62, 29, 188, 8, 58, 4, 42, 27, 25, 4, 3, 42, 190, 27, 100, 29]
abbrev dktJ10_copyOfRangeByte_0 : List UInt8 := dkwJ10_copyOfRangeByte_0 ++ dktJ10_copyOfRangeByte_1
theorem dksJ10_copyOfRangeByte_0 : cJ10_copyOfRangeByte.data.toList.drop 0 = dktJ10_copyOfRangeByte_0 := by decide +kernel
theorem dksJ10_copyOfRangeByte_1 : cJ10_copyOfRangeByte.data.toList.drop 24 = dktJ10_copyOfRangeByte_1 := dk_seg dksJ10_copyOfRangeByte_0 24 rfl rfl
theorem dJ10_copyOfRangeByte_0 : decode cJ10_copyOfRangeByte 0 = .ok (.iload_n 1, 1) := dk_27 (dk_at dksJ10_copyOfRangeByte_0 0 rfl rfl)
theorem dJ10_copyOfRangeByte_1 : decode cJ10_copyOfRangeByte 1 = .ok (.iload_n 2, 1) := dk_28 (dk_at dksJ10_copyOfRangeByte_0 1 rfl rfl)
theorem dJ10_copyOfRangeByte_2 : decode cJ10_copyOfRangeByte 2 = .ok (.invokestatic 343, 3) := dk_184 1 87 (dk_at dksJ10_copyOfRangeByte_0 2 rfl rfl)
theorem dJ10_copyOfRangeByte_5 : decode cJ10_copyOfRangeByte 5 = .ok (.iload_n 2, 1) := dk_28 (dk_at dksJ10_copyOfRangeByte_0 5 rfl rfl)
theorem dJ10_copyOfRangeByte_6 : decode cJ10_copyOfRangeByte 6 = .ok (.iload_n 1, 1) := dk_27 (dk_at dksJ10_copyOfRangeByte_0 6 rfl rfl)
theorem dJ10_copyOfRangeByte_7 : decode cJ10_copyOfRangeByte 7 = .ok (.isub, 1) := dk_100 (dk_at dksJ10_copyOfRangeByte_0 7 rfl rfl)
theorem dJ10_copyOfRangeByte_8 : decode cJ10_copyOfRangeByte 8 = .ok (.istore_n 3, 1) := dk_62 (dk_at dksJ10_copyOfRangeByte_0 8 rfl rfl)
theorem dJ10_copyOfRangeByte_9 : decode cJ10_copyOfRangeByte 9 = .ok (.iload_n 3, 1) := dk_29 (dk_at dksJ10_copyOfRangeByte_0 9 rfl rfl)
theorem dJ10_copyOfRangeByte_10 : decode cJ10_copyOfRangeByte 10 = .ok (.newarray .byte, 2) := dk_188_8 (dk_at dksJ10_copyOfRangeByte_0 10 rfl rfl)
theorem dJ10_copyOfRangeByte_12 : decode cJ10_copyOfRangeByte 12 = .ok (.astore 4, 2) := dk_58 4 (dk_at dksJ10_copyOfRangeByte_0 12 rfl rfl)
theorem dJ10_copyOfRangeByte_14 : decode cJ10_copyOfRangeByte 14 = .ok (.aload_n 0, 1) := dk_42 (dk_at dksJ10_copyOfRangeByte_0 14 rfl rfl)
theorem dJ10_copyOfRangeByte_15 : decode cJ10_copyOfRangeByte 15 = .ok (.iload_n 1, 1) := dk_27 (dk_at dksJ10_copyOfRangeByte_0 15 rfl rfl)
theorem dJ10_copyOfRangeByte_16 : decode cJ10_copyOfRangeByte 16 = .ok (.aload 4, 2) := dk_25 4 (dk_at dksJ10_copyOfRangeByte_0 16 rfl rfl)
theorem dJ10_copyOfRangeByte_18 : decode cJ10_copyOfRangeByte 18 = .ok (.iconst 0, 1) := dk_3 (dk_at dksJ10_copyOfRangeByte_0 18 rfl rfl)
theorem dJ10_copyOfRangeByte_19 : decode cJ10_copyOfRangeByte 19 = .ok (.aload_n 0, 1) := dk_42 (dk_at dksJ10_copyOfRangeByte_0 19 rfl rfl)
theorem dJ10_copyOfRangeByte_20 : decode cJ10_copyOfRangeByte 20 = .ok (.arraylength, 1) := dk_190 (dk_at dksJ10_copyOfRangeByte_0 20 rfl rfl)
theorem dJ10_copyOfRangeByte_21 : decode cJ10_copyOfRangeByte 21 = .ok (.iload_n 1, 1) := dk_27 (dk_at dksJ10_copyOfRangeByte_0 21 rfl rfl)
theorem dJ10_copyOfRangeByte_22 : decode cJ10_copyOfRangeByte 22 = .ok (.isub, 1) := dk_100 (dk_at dksJ10_copyOfRangeByte_0 22 rfl rfl)
theorem dJ10_copyOfRangeByte_23 : decode cJ10_copyOfRangeByte 23 = .ok (.iload_n 3, 1) := dk_29 (dk_at dksJ10_copyOfRangeByte_0 23 rfl rfl)
theorem dJ10_copyOfRangeByte_24 : decode cJ10_copyOfRangeByte 24 = .ok (.invokestatic 304, 3) := dk_184 1 48 (dk_at dksJ10_copyOfRangeByte_1 0 rfl rfl)
theorem dJ10_copyOfRangeByte_27 : decode cJ10_copyOfRangeByte 27 = .ok (.invokestatic 150, 3) := dk_184 0 150 (dk_at dksJ10_copyOfRangeByte_1 3 rfl rfl)
theorem dJ10_copyOfRangeByte_30 : decode cJ10_copyOfRangeByte 30 = .ok (.aload 4, 2) := dk_25 4 (dk_at dksJ10_copyOfRangeByte_1 6 rfl rfl)
theorem dJ10_copyOfRangeByte_32 : decode cJ10_copyOfRangeByte 32 = .ok (.areturn, 1) := dk_176 (dk_at dksJ10_copyOfRangeByte_1 8 rfl rfl)
abbrev cJ10_checkLength : ByteArray := prog_52_method_131_code
def yJ10_checkLength : MethodName := ⟨RJ10, "checkLength", "(II)V"⟩
def dkwJ10_checkLength_1 : List UInt8 := [182, 0, 50, 27, 182, 0, 54, 182, 0, 61, 183, 0, 65, 191, 177]
abbrev dktJ10_checkLength_1 : List UInt8 := dkwJ10_checkLength_1 ++ []
def dkwJ10_checkLength_0 : List UInt8 := [27, 26, 162, 0, 35, 187, 0, 43, 89, 187, 0, 45, 89, 183, 0, 47, 26, 182, 0, 54, 19, 1, 81]
abbrev dktJ10_checkLength_0 : List UInt8 := dkwJ10_checkLength_0 ++ dktJ10_checkLength_1
theorem dksJ10_checkLength_0 : cJ10_checkLength.data.toList.drop 0 = dktJ10_checkLength_0 := by decide +kernel
theorem dksJ10_checkLength_1 : cJ10_checkLength.data.toList.drop 23 = dktJ10_checkLength_1 := dk_seg dksJ10_checkLength_0 23 rfl rfl
theorem dJ10_checkLength_0 : decode cJ10_checkLength 0 = .ok (.iload_n 1, 1) := dk_27 (dk_at dksJ10_checkLength_0 0 rfl rfl)
theorem dJ10_checkLength_1 : decode cJ10_checkLength 1 = .ok (.iload_n 0, 1) := dk_26 (dk_at dksJ10_checkLength_0 1 rfl rfl)
theorem dJ10_checkLength_2 : decode cJ10_checkLength 2 = .ok (.if_icmp .ge 35, 3) := dk_162 0 35 (dk_at dksJ10_checkLength_0 2 rfl rfl)
theorem dJ10_checkLength_5 : decode cJ10_checkLength 5 = .ok (.new 43, 3) := dk_187 0 43 (dk_at dksJ10_checkLength_0 5 rfl rfl)
theorem dJ10_checkLength_8 : decode cJ10_checkLength 8 = .ok (.dup, 1) := dk_89 (dk_at dksJ10_checkLength_0 8 rfl rfl)
theorem dJ10_checkLength_9 : decode cJ10_checkLength 9 = .ok (.new 45, 3) := dk_187 0 45 (dk_at dksJ10_checkLength_0 9 rfl rfl)
theorem dJ10_checkLength_12 : decode cJ10_checkLength 12 = .ok (.dup, 1) := dk_89 (dk_at dksJ10_checkLength_0 12 rfl rfl)
theorem dJ10_checkLength_13 : decode cJ10_checkLength 13 = .ok (.invokespecial 47, 3) := dk_183 0 47 (dk_at dksJ10_checkLength_0 13 rfl rfl)
theorem dJ10_checkLength_16 : decode cJ10_checkLength 16 = .ok (.iload_n 0, 1) := dk_26 (dk_at dksJ10_checkLength_0 16 rfl rfl)
theorem dJ10_checkLength_17 : decode cJ10_checkLength 17 = .ok (.invokevirtual 54, 3) := dk_182 0 54 (dk_at dksJ10_checkLength_0 17 rfl rfl)
theorem dJ10_checkLength_20 : decode cJ10_checkLength 20 = .ok (.ldc_w 337, 3) := dk_19 1 81 (dk_at dksJ10_checkLength_0 20 rfl rfl)
theorem dJ10_checkLength_23 : decode cJ10_checkLength 23 = .ok (.invokevirtual 50, 3) := dk_182 0 50 (dk_at dksJ10_checkLength_1 0 rfl rfl)
theorem dJ10_checkLength_26 : decode cJ10_checkLength 26 = .ok (.iload_n 1, 1) := dk_27 (dk_at dksJ10_checkLength_1 3 rfl rfl)
theorem dJ10_checkLength_27 : decode cJ10_checkLength 27 = .ok (.invokevirtual 54, 3) := dk_182 0 54 (dk_at dksJ10_checkLength_1 4 rfl rfl)
theorem dJ10_checkLength_30 : decode cJ10_checkLength 30 = .ok (.invokevirtual 61, 3) := dk_182 0 61 (dk_at dksJ10_checkLength_1 7 rfl rfl)
theorem dJ10_checkLength_33 : decode cJ10_checkLength 33 = .ok (.invokespecial 65, 3) := dk_183 0 65 (dk_at dksJ10_checkLength_1 10 rfl rfl)
theorem dJ10_checkLength_36 : decode cJ10_checkLength 36 = .ok (.athrow, 1) := dk_191 (dk_at dksJ10_checkLength_1 13 rfl rfl)
theorem dJ10_checkLength_37 : decode cJ10_checkLength 37 = .ok (.return_, 1) := dk_177 (dk_at dksJ10_checkLength_1 14 rfl rfl)
abbrev cJ10_fill : ByteArray := prog_52_method_103_code
def yJ10_fill : MethodName := ⟨RJ10, "fill", "([II)V"⟩
def dkwJ10_fill_0 : List UInt8 := [3, 61, 42, 190, 62, 28, 29, 162, 0, 13, 42, 28, 27, 79, 132, 2, 1, 167, 255, 244, 177]
abbrev dktJ10_fill_0 : List UInt8 := dkwJ10_fill_0 ++ []
theorem dksJ10_fill_0 : cJ10_fill.data.toList.drop 0 = dktJ10_fill_0 := by decide +kernel
theorem dJ10_fill_0 : decode cJ10_fill 0 = .ok (.iconst 0, 1) := dk_3 (dk_at dksJ10_fill_0 0 rfl rfl)
theorem dJ10_fill_1 : decode cJ10_fill 1 = .ok (.istore_n 2, 1) := dk_61 (dk_at dksJ10_fill_0 1 rfl rfl)
theorem dJ10_fill_2 : decode cJ10_fill 2 = .ok (.aload_n 0, 1) := dk_42 (dk_at dksJ10_fill_0 2 rfl rfl)
theorem dJ10_fill_3 : decode cJ10_fill 3 = .ok (.arraylength, 1) := dk_190 (dk_at dksJ10_fill_0 3 rfl rfl)
theorem dJ10_fill_4 : decode cJ10_fill 4 = .ok (.istore_n 3, 1) := dk_62 (dk_at dksJ10_fill_0 4 rfl rfl)
theorem dJ10_fill_5 : decode cJ10_fill 5 = .ok (.iload_n 2, 1) := dk_28 (dk_at dksJ10_fill_0 5 rfl rfl)
theorem dJ10_fill_6 : decode cJ10_fill 6 = .ok (.iload_n 3, 1) := dk_29 (dk_at dksJ10_fill_0 6 rfl rfl)
theorem dJ10_fill_7 : decode cJ10_fill 7 = .ok (.if_icmp .ge 13, 3) := dk_162 0 13 (dk_at dksJ10_fill_0 7 rfl rfl)
theorem dJ10_fill_10 : decode cJ10_fill 10 = .ok (.aload_n 0, 1) := dk_42 (dk_at dksJ10_fill_0 10 rfl rfl)
theorem dJ10_fill_11 : decode cJ10_fill 11 = .ok (.iload_n 2, 1) := dk_28 (dk_at dksJ10_fill_0 11 rfl rfl)
theorem dJ10_fill_12 : decode cJ10_fill 12 = .ok (.iload_n 1, 1) := dk_27 (dk_at dksJ10_fill_0 12 rfl rfl)
theorem dJ10_fill_13 : decode cJ10_fill 13 = .ok (.iastore, 1) := dk_79 (dk_at dksJ10_fill_0 13 rfl rfl)
theorem dJ10_fill_14 : decode cJ10_fill 14 = .ok (.iinc 2 1, 3) := dk_132 2 1 (dk_at dksJ10_fill_0 14 rfl rfl)
theorem dJ10_fill_17 : decode cJ10_fill 17 = .ok (.goto (-12), 3) := dk_167 255 244 (dk_at dksJ10_fill_0 17 rfl rfl)
theorem dJ10_fill_20 : decode cJ10_fill 20 = .ok (.return_, 1) := dk_177 (dk_at dksJ10_fill_0 20 rfl rfl)
abbrev cJ10_copyOf_2 : ByteArray := prog_52_method_119_code
def yJ10_copyOf_2 : MethodName := ⟨RJ10, "copyOf", "([Ljava/lang/Object;I)[Ljava/lang/Object;"⟩
def dkwJ10_copyOf_2_0 : List UInt8 := [42, 27, 42, 182, 0, 86, 184, 1, 44, 176]
abbrev dktJ10_copyOf_2_0 : List UInt8 := dkwJ10_copyOf_2_0 ++ []
theorem dksJ10_copyOf_2_0 : cJ10_copyOf_2.data.toList.drop 0 = dktJ10_copyOf_2_0 := by decide +kernel
theorem dJ10_copyOf_2_0 : decode cJ10_copyOf_2 0 = .ok (.aload_n 0, 1) := dk_42 (dk_at dksJ10_copyOf_2_0 0 rfl rfl)
theorem dJ10_copyOf_2_1 : decode cJ10_copyOf_2 1 = .ok (.iload_n 1, 1) := dk_27 (dk_at dksJ10_copyOf_2_0 1 rfl rfl)
theorem dJ10_copyOf_2_2 : decode cJ10_copyOf_2 2 = .ok (.aload_n 0, 1) := dk_42 (dk_at dksJ10_copyOf_2_0 2 rfl rfl)
theorem dJ10_copyOf_2_3 : decode cJ10_copyOf_2 3 = .ok (.invokevirtual 86, 3) := dk_182 0 86 (dk_at dksJ10_copyOf_2_0 3 rfl rfl)
theorem dJ10_copyOf_2_6 : decode cJ10_copyOf_2 6 = .ok (.invokestatic 300, 3) := dk_184 1 44 (dk_at dksJ10_copyOf_2_0 6 rfl rfl)
theorem dJ10_copyOf_2_9 : decode cJ10_copyOf_2 9 = .ok (.areturn, 1) := dk_176 (dk_at dksJ10_copyOf_2_0 9 rfl rfl)
abbrev cJ10_copyOf_3 : ByteArray := prog_52_method_120_code
def yJ10_copyOf_3 : MethodName := ⟨RJ10, "copyOf", "([Ljava/lang/Object;ILjava/lang/Class;)[Ljava/lang/Object;"⟩
def dkwJ10_copyOf_3_1 : List UInt8 := [78, 42, 3, 45, 3, 42, 190, 27, 184, 1, 48, 184, 0, 150, 45, 176]
abbrev dktJ10_copyOf_3_1 : List UInt8 := dkwJ10_copyOf_3_1 ++ []
def dkwJ10_copyOf_3_0 : List UInt8 := [44, 18, 110, 166, 0, 10, 27, 189, 0, 2, 167, 0, 14, 44, 182, 0, 90, 27, 184, 0, 95, 192, 0, 110]
abbrev dktJ10_copyOf_3_0 : List UInt8 := dkwJ10_copyOf_3_0 ++ dktJ10_copyOf_3_1
theorem dksJ10_copyOf_3_0 : cJ10_copyOf_3.data.toList.drop 0 = dktJ10_copyOf_3_0 := by decide +kernel
theorem dksJ10_copyOf_3_1 : cJ10_copyOf_3.data.toList.drop 24 = dktJ10_copyOf_3_1 := dk_seg dksJ10_copyOf_3_0 24 rfl rfl
theorem dJ10_copyOf_3_0 : decode cJ10_copyOf_3 0 = .ok (.aload_n 2, 1) := dk_44 (dk_at dksJ10_copyOf_3_0 0 rfl rfl)
theorem dJ10_copyOf_3_1 : decode cJ10_copyOf_3 1 = .ok (.ldc 110, 2) := dk_18 110 (dk_at dksJ10_copyOf_3_0 1 rfl rfl)
theorem dJ10_copyOf_3_3 : decode cJ10_copyOf_3 3 = .ok (.if_acmp .ne 10, 3) := dk_166 0 10 (dk_at dksJ10_copyOf_3_0 3 rfl rfl)
theorem dJ10_copyOf_3_6 : decode cJ10_copyOf_3 6 = .ok (.iload_n 1, 1) := dk_27 (dk_at dksJ10_copyOf_3_0 6 rfl rfl)
theorem dJ10_copyOf_3_7 : decode cJ10_copyOf_3 7 = .ok (.anewarray 2, 3) := dk_189 0 2 (dk_at dksJ10_copyOf_3_0 7 rfl rfl)
theorem dJ10_copyOf_3_10 : decode cJ10_copyOf_3 10 = .ok (.goto 14, 3) := dk_167 0 14 (dk_at dksJ10_copyOf_3_0 10 rfl rfl)
theorem dJ10_copyOf_3_13 : decode cJ10_copyOf_3 13 = .ok (.aload_n 2, 1) := dk_44 (dk_at dksJ10_copyOf_3_0 13 rfl rfl)
theorem dJ10_copyOf_3_14 : decode cJ10_copyOf_3 14 = .ok (.invokevirtual 90, 3) := dk_182 0 90 (dk_at dksJ10_copyOf_3_0 14 rfl rfl)
theorem dJ10_copyOf_3_17 : decode cJ10_copyOf_3 17 = .ok (.iload_n 1, 1) := dk_27 (dk_at dksJ10_copyOf_3_0 17 rfl rfl)
theorem dJ10_copyOf_3_18 : decode cJ10_copyOf_3 18 = .ok (.invokestatic 95, 3) := dk_184 0 95 (dk_at dksJ10_copyOf_3_0 18 rfl rfl)
theorem dJ10_copyOf_3_21 : decode cJ10_copyOf_3 21 = .ok (.checkcast 110, 3) := dk_192 0 110 (dk_at dksJ10_copyOf_3_0 21 rfl rfl)
theorem dJ10_copyOf_3_24 : decode cJ10_copyOf_3 24 = .ok (.astore_n 3, 1) := dk_78 (dk_at dksJ10_copyOf_3_1 0 rfl rfl)
theorem dJ10_copyOf_3_25 : decode cJ10_copyOf_3 25 = .ok (.aload_n 0, 1) := dk_42 (dk_at dksJ10_copyOf_3_1 1 rfl rfl)
theorem dJ10_copyOf_3_26 : decode cJ10_copyOf_3 26 = .ok (.iconst 0, 1) := dk_3 (dk_at dksJ10_copyOf_3_1 2 rfl rfl)
theorem dJ10_copyOf_3_27 : decode cJ10_copyOf_3 27 = .ok (.aload_n 3, 1) := dk_45 (dk_at dksJ10_copyOf_3_1 3 rfl rfl)
theorem dJ10_copyOf_3_28 : decode cJ10_copyOf_3 28 = .ok (.iconst 0, 1) := dk_3 (dk_at dksJ10_copyOf_3_1 4 rfl rfl)
theorem dJ10_copyOf_3_29 : decode cJ10_copyOf_3 29 = .ok (.aload_n 0, 1) := dk_42 (dk_at dksJ10_copyOf_3_1 5 rfl rfl)
theorem dJ10_copyOf_3_30 : decode cJ10_copyOf_3 30 = .ok (.arraylength, 1) := dk_190 (dk_at dksJ10_copyOf_3_1 6 rfl rfl)
theorem dJ10_copyOf_3_31 : decode cJ10_copyOf_3 31 = .ok (.iload_n 1, 1) := dk_27 (dk_at dksJ10_copyOf_3_1 7 rfl rfl)
theorem dJ10_copyOf_3_32 : decode cJ10_copyOf_3 32 = .ok (.invokestatic 304, 3) := dk_184 1 48 (dk_at dksJ10_copyOf_3_1 8 rfl rfl)
theorem dJ10_copyOf_3_35 : decode cJ10_copyOf_3 35 = .ok (.invokestatic 150, 3) := dk_184 0 150 (dk_at dksJ10_copyOf_3_1 11 rfl rfl)
theorem dJ10_copyOf_3_38 : decode cJ10_copyOf_3 38 = .ok (.aload_n 3, 1) := dk_45 (dk_at dksJ10_copyOf_3_1 14 rfl rfl)
theorem dJ10_copyOf_3_39 : decode cJ10_copyOf_3 39 = .ok (.areturn, 1) := dk_176 (dk_at dksJ10_copyOf_3_1 15 rfl rfl)
abbrev cJ10_copyOf_4 : ByteArray := prog_52_method_123_code
def yJ10_copyOf_4 : MethodName := ⟨RJ10, "copyOf", "([II)[I"⟩
def dkwJ10_copyOf_4_1 : List UInt8 := [27, 184, 1, 48, 184, 0, 150, 44, 176]
abbrev dktJ10_copyOf_4_1 : List UInt8 := dkwJ10_copyOf_4_1 ++ []
def dkwJ10_copyOf_4_0 : List UInt8 := [27, 42, 190, 160, 0, 11, 42, 182, 1, 60, 192, 1, 61, 176, 27, 188, 10, 77, 42, 3, 44, 3, 42, 190]
abbrev dktJ10_copyOf_4_0 : List UInt8 := dkwJ10_copyOf_4_0 ++ dktJ10_copyOf_4_1
theorem dksJ10_copyOf_4_0 : cJ10_copyOf_4.data.toList.drop 0 = dktJ10_copyOf_4_0 := by decide +kernel
theorem dksJ10_copyOf_4_1 : cJ10_copyOf_4.data.toList.drop 24 = dktJ10_copyOf_4_1 := dk_seg dksJ10_copyOf_4_0 24 rfl rfl
theorem dJ10_copyOf_4_0 : decode cJ10_copyOf_4 0 = .ok (.iload_n 1, 1) := dk_27 (dk_at dksJ10_copyOf_4_0 0 rfl rfl)
theorem dJ10_copyOf_4_1 : decode cJ10_copyOf_4 1 = .ok (.aload_n 0, 1) := dk_42 (dk_at dksJ10_copyOf_4_0 1 rfl rfl)
theorem dJ10_copyOf_4_2 : decode cJ10_copyOf_4 2 = .ok (.arraylength, 1) := dk_190 (dk_at dksJ10_copyOf_4_0 2 rfl rfl)
theorem dJ10_copyOf_4_3 : decode cJ10_copyOf_4 3 = .ok (.if_icmp .ne 11, 3) := dk_160 0 11 (dk_at dksJ10_copyOf_4_0 3 rfl rfl)
theorem dJ10_copyOf_4_6 : decode cJ10_copyOf_4 6 = .ok (.aload_n 0, 1) := dk_42 (dk_at dksJ10_copyOf_4_0 6 rfl rfl)
theorem dJ10_copyOf_4_7 : decode cJ10_copyOf_4 7 = .ok (.invokevirtual 316, 3) := dk_182 1 60 (dk_at dksJ10_copyOf_4_0 7 rfl rfl)
theorem dJ10_copyOf_4_10 : decode cJ10_copyOf_4 10 = .ok (.checkcast 317, 3) := dk_192 1 61 (dk_at dksJ10_copyOf_4_0 10 rfl rfl)
theorem dJ10_copyOf_4_13 : decode cJ10_copyOf_4 13 = .ok (.areturn, 1) := dk_176 (dk_at dksJ10_copyOf_4_0 13 rfl rfl)
theorem dJ10_copyOf_4_14 : decode cJ10_copyOf_4 14 = .ok (.iload_n 1, 1) := dk_27 (dk_at dksJ10_copyOf_4_0 14 rfl rfl)
theorem dJ10_copyOf_4_15 : decode cJ10_copyOf_4 15 = .ok (.newarray .int, 2) := dk_188_10 (dk_at dksJ10_copyOf_4_0 15 rfl rfl)
theorem dJ10_copyOf_4_17 : decode cJ10_copyOf_4 17 = .ok (.astore_n 2, 1) := dk_77 (dk_at dksJ10_copyOf_4_0 17 rfl rfl)
theorem dJ10_copyOf_4_18 : decode cJ10_copyOf_4 18 = .ok (.aload_n 0, 1) := dk_42 (dk_at dksJ10_copyOf_4_0 18 rfl rfl)
theorem dJ10_copyOf_4_19 : decode cJ10_copyOf_4 19 = .ok (.iconst 0, 1) := dk_3 (dk_at dksJ10_copyOf_4_0 19 rfl rfl)
theorem dJ10_copyOf_4_20 : decode cJ10_copyOf_4 20 = .ok (.aload_n 2, 1) := dk_44 (dk_at dksJ10_copyOf_4_0 20 rfl rfl)
theorem dJ10_copyOf_4_21 : decode cJ10_copyOf_4 21 = .ok (.iconst 0, 1) := dk_3 (dk_at dksJ10_copyOf_4_0 21 rfl rfl)
theorem dJ10_copyOf_4_22 : decode cJ10_copyOf_4 22 = .ok (.aload_n 0, 1) := dk_42 (dk_at dksJ10_copyOf_4_0 22 rfl rfl)
theorem dJ10_copyOf_4_23 : decode cJ10_copyOf_4 23 = .ok (.arraylength, 1) := dk_190 (dk_at dksJ10_copyOf_4_0 23 rfl rfl)
theorem dJ10_copyOf_4_24 : decode cJ10_copyOf_4 24 = .ok (.iload_n 1, 1) := dk_27 (dk_at dksJ10_copyOf_4_1 0 rfl rfl)
theorem dJ10_copyOf_4_25 : decode cJ10_copyOf_4 25 = .ok (.invokestatic 304, 3) := dk_184 1 48 (dk_at dksJ10_copyOf_4_1 1 rfl rfl)
theorem dJ10_copyOf_4_28 : decode cJ10_copyOf_4 28 = .ok (.invokestatic 150, 3) := dk_184 0 150 (dk_at dksJ10_copyOf_4_1 4 rfl rfl)
theorem dJ10_copyOf_4_31 : decode cJ10_copyOf_4 31 = .ok (.aload_n 2, 1) := dk_44 (dk_at dksJ10_copyOf_4_1 7 rfl rfl)
theorem dJ10_copyOf_4_32 : decode cJ10_copyOf_4 32 = .ok (.areturn, 1) := dk_176 (dk_at dksJ10_copyOf_4_1 8 rfl rfl)
theorem q142 : (Jvm.Cond.initialized "java/util/Arrays") ∈ lw_all := lw_g (lw_at lw_m1 17 rfl) rfl
theorem q379 : (Jvm.Cond.static ({ cls := "java/util/Arrays", name := "copyOf", desc := "([BI)[B" } : Jvm.MethodName)) ∈ lw_all := lw_g (lw_at lw_m2 14 rfl) rfl
theorem q380 : (Jvm.Cond.code ({ cls := "java/util/Arrays", name := "copyOf", desc := "([BI)[B" } : Jvm.MethodName) prog_52_method_121_code (3 : Nat) (Option.some (Jvm.ClassFile.FieldType.array Jvm.ClassFile.FieldType.byte))) ∈ lw_all := lw_g (lw_at lw_m2 15 rfl) rfl
theorem q381 : (Jvm.Cond.methodLink "java/util/Arrays" (310 : Nat) ({ cls := "[B", name := "clone", desc := "()Ljava/lang/Object;" } : Jvm.MethodName)) ∈ lw_all := lw_g (lw_at lw_m2 16 rfl) rfl
theorem q387 : (Jvm.Cond.classLink "java/util/Arrays" (311 : Nat) "[B") ∈ lw_all := lw_g (lw_at lw_m2 22 rfl) rfl
theorem q388 : (Jvm.Cond.methodLink "java/util/Arrays" (304 : Nat) ({ cls := "java/lang/Math", name := "min", desc := "(II)I" } : Jvm.MethodName)) ∈ lw_all := lw_g (lw_at lw_m2 23 rfl) rfl
theorem q391 : (Jvm.Cond.methodLink "java/util/Arrays" (150 : Nat) ({ cls := "java/lang/System", name := "arraycopy", desc := "(Ljava/lang/Object;ILjava/lang/Object;II)V" } : Jvm.MethodName)) ∈ lw_all := lw_g (lw_at lw_m2 26 rfl) rfl
theorem q468 : (Jvm.Cond.static ({ cls := "java/util/Arrays", name := "copyOfRange", desc := "([BII)[B" } : Jvm.MethodName)) ∈ lw_all := lw_g (lw_at lw_m2 103 rfl) rfl
theorem q469 : (Jvm.Cond.code ({ cls := "java/util/Arrays", name := "copyOfRange", desc := "([BII)[B" } : Jvm.MethodName) prog_52_method_132_code (3 : Nat) (Option.some (Jvm.ClassFile.FieldType.array Jvm.ClassFile.FieldType.byte))) ∈ lw_all := lw_g (lw_at lw_m2 104 rfl) rfl
theorem q470 : (Jvm.Cond.methodLink "java/util/Arrays" (339 : Nat) ({ cls := "java/util/Arrays", name := "copyOfRangeByte", desc := "([BII)[B" } : Jvm.MethodName)) ∈ lw_all := lw_g (lw_at lw_m2 105 rfl) rfl
theorem q471 : (Jvm.Cond.static ({ cls := "java/util/Arrays", name := "copyOfRangeByte", desc := "([BII)[B" } : Jvm.MethodName)) ∈ lw_all := lw_g (lw_at lw_m2 106 rfl) rfl
theorem q472 : (Jvm.Cond.code ({ cls := "java/util/Arrays", name := "copyOfRangeByte", desc := "([BII)[B" } : Jvm.MethodName) prog_52_method_133_code (5 : Nat) (Option.some (Jvm.ClassFile.FieldType.array Jvm.ClassFile.FieldType.byte))) ∈ lw_all := lw_g (lw_at lw_m2 107 rfl) rfl
theorem q473 : (Jvm.Cond.methodLink "java/util/Arrays" (343 : Nat) ({ cls := "java/util/Arrays", name := "checkLength", desc := "(II)V" } : Jvm.MethodName)) ∈ lw_all := lw_g (lw_at lw_m2 108 rfl) rfl
theorem q474 : (Jvm.Cond.static ({ cls := "java/util/Arrays", name := "checkLength", desc := "(II)V" } : Jvm.MethodName)) ∈ lw_all := lw_g (lw_at lw_m2 109 rfl) rfl
theorem q475 : (Jvm.Cond.code ({ cls := "java/util/Arrays", name := "checkLength", desc := "(II)V" } : Jvm.MethodName) prog_52_method_131_code (2 : Nat) (Option.none : Option Jvm.ClassFile.FieldType)) ∈ lw_all := lw_g (lw_at lw_m2 110 rfl) rfl
theorem q526 : (Jvm.Cond.static ({ cls := "java/util/Arrays", name := "fill", desc := "([II)V" } : Jvm.MethodName)) ∈ lw_all := lw_g (lw_at lw_m2 161 rfl) rfl
theorem q527 : (Jvm.Cond.code ({ cls := "java/util/Arrays", name := "fill", desc := "([II)V" } : Jvm.MethodName) prog_52_method_103_code (4 : Nat) (Option.none : Option Jvm.ClassFile.FieldType)) ∈ lw_all := lw_g (lw_at lw_m2 162 rfl) rfl
theorem q751 : (Jvm.Cond.static ({ cls := "java/util/Arrays", name := "copyOf", desc := "([Ljava/lang/Object;I)[Ljava/lang/Object;" } : Jvm.MethodName)) ∈ lw_all := lw_g (lw_at lw_m3 146 rfl) rfl
theorem q752 : (Jvm.Cond.code ({ cls := "java/util/Arrays", name := "copyOf", desc := "([Ljava/lang/Object;I)[Ljava/lang/Object;" } : Jvm.MethodName) prog_52_method_119_code (2 : Nat) (Option.some (Jvm.ClassFile.FieldType.array (Jvm.ClassFile.FieldType.object "java/lang/Object")))) ∈ lw_all := lw_g (lw_at lw_m3 147 rfl) rfl
theorem q753 : (Jvm.Cond.methodLink "java/util/Arrays" (86 : Nat) ({ cls := "java/lang/Object", name := "getClass", desc := "()Ljava/lang/Class;" } : Jvm.MethodName)) ∈ lw_all := lw_g (lw_at lw_m3 148 rfl) rfl
theorem q786 : (Jvm.Cond.methodLink "java/util/Arrays" (300 : Nat) ({ cls := "java/util/Arrays", name := "copyOf", desc := "([Ljava/lang/Object;ILjava/lang/Class;)[Ljava/lang/Object;" } : Jvm.MethodName)) ∈ lw_all := lw_g (lw_at lw_m3 181 rfl) rfl
theorem q787 : (Jvm.Cond.static ({ cls := "java/util/Arrays", name := "copyOf", desc := "([Ljava/lang/Object;ILjava/lang/Class;)[Ljava/lang/Object;" } : Jvm.MethodName)) ∈ lw_all := lw_g (lw_at lw_m3 182 rfl) rfl
theorem q788 : (Jvm.Cond.code ({ cls := "java/util/Arrays", name := "copyOf", desc := "([Ljava/lang/Object;ILjava/lang/Class;)[Ljava/lang/Object;" } : Jvm.MethodName) prog_52_method_120_code (4 : Nat) (Option.some (Jvm.ClassFile.FieldType.array (Jvm.ClassFile.FieldType.object "java/lang/Object")))) ∈ lw_all := lw_g (lw_at lw_m3 183 rfl) rfl
theorem q789 : (Jvm.Cond.classLink "java/util/Arrays" (110 : Nat) "[Ljava/lang/Object;") ∈ lw_all := lw_g (lw_at lw_m3 184 rfl) rfl
theorem q790 : (Jvm.Cond.classLink "java/util/Arrays" (2 : Nat) "java/lang/Object") ∈ lw_all := lw_g (lw_at lw_m3 185 rfl) rfl
theorem q1439 : (Jvm.Cond.static ({ cls := "java/util/Arrays", name := "copyOf", desc := "([II)[I" } : Jvm.MethodName)) ∈ lw_all := lw_g (lw_at lw_m6 114 rfl) rfl
theorem q1440 : (Jvm.Cond.code ({ cls := "java/util/Arrays", name := "copyOf", desc := "([II)[I" } : Jvm.MethodName) prog_52_method_123_code (3 : Nat) (Option.some (Jvm.ClassFile.FieldType.array Jvm.ClassFile.FieldType.int))) ∈ lw_all := lw_g (lw_at lw_m6 115 rfl) rfl
theorem q1441 : (Jvm.Cond.methodLink "java/util/Arrays" (316 : Nat) ({ cls := "[I", name := "clone", desc := "()Ljava/lang/Object;" } : Jvm.MethodName)) ∈ lw_all := lw_g (lw_at lw_m6 116 rfl) rfl
theorem q1445 : (Jvm.Cond.classLink "java/util/Arrays" (317 : Nat) "[I") ∈ lw_all := lw_g (lw_at lw_m6 120 rfl) rfl

/-! java/lang/StringLatin1 -/
set_option maxRecDepth 100000
def RJ11 : String := "java/lang/StringLatin1"
abbrev cJ11_canEncode : ByteArray := prog_42_method_3_code
def yJ11_canEncode : MethodName := ⟨RJ11, "canEncode", "(C)Z"⟩
def dkwJ11_canEncode_0 : List UInt8 := [26, 17, 0, 255, 163, 0, 7, 4, 167, 0, 4, 3, 172]
abbrev dktJ11_canEncode_0 : List UInt8 := dkwJ11_canEncode_0 ++ []
theorem dksJ11_canEncode_0 : cJ11_canEncode.data.toList.drop 0 = dktJ11_canEncode_0 := by decide +kernel
theorem dJ11_canEncode_0 : decode cJ11_canEncode 0 = .ok (.iload_n 0, 1) := dk_26 (dk_at dksJ11_canEncode_0 0 rfl rfl)
theorem dJ11_canEncode_1 : decode cJ11_canEncode 1 = .ok (.sipush 255, 3) := dk_17 0 255 (dk_at dksJ11_canEncode_0 1 rfl rfl)
theorem dJ11_canEncode_4 : decode cJ11_canEncode 4 = .ok (.if_icmp .gt 7, 3) := dk_163 0 7 (dk_at dksJ11_canEncode_0 4 rfl rfl)
theorem dJ11_canEncode_7 : decode cJ11_canEncode 7 = .ok (.iconst 1, 1) := dk_4 (dk_at dksJ11_canEncode_0 7 rfl rfl)
theorem dJ11_canEncode_8 : decode cJ11_canEncode 8 = .ok (.goto 4, 3) := dk_167 0 4 (dk_at dksJ11_canEncode_0 8 rfl rfl)
theorem dJ11_canEncode_11 : decode cJ11_canEncode 11 = .ok (.iconst 0, 1) := dk_3 (dk_at dksJ11_canEncode_0 11 rfl rfl)
theorem dJ11_canEncode_12 : decode cJ11_canEncode 12 = .ok (.ireturn, 1) := dk_172 (dk_at dksJ11_canEncode_0 12 rfl rfl)
abbrev cJ11_inflate : ByteArray := prog_42_method_50_code
def yJ11_inflate : MethodName := ⟨RJ11, "inflate", "([BI[BII)V"⟩
def dkwJ11_inflate_0 : List UInt8 := [42, 27, 44, 29, 21, 4, 184, 0, 240, 177]
abbrev dktJ11_inflate_0 : List UInt8 := dkwJ11_inflate_0 ++ []
theorem dksJ11_inflate_0 : cJ11_inflate.data.toList.drop 0 = dktJ11_inflate_0 := by decide +kernel
theorem dJ11_inflate_0 : decode cJ11_inflate 0 = .ok (.aload_n 0, 1) := dk_42 (dk_at dksJ11_inflate_0 0 rfl rfl)
theorem dJ11_inflate_1 : decode cJ11_inflate 1 = .ok (.iload_n 1, 1) := dk_27 (dk_at dksJ11_inflate_0 1 rfl rfl)
theorem dJ11_inflate_2 : decode cJ11_inflate 2 = .ok (.aload_n 2, 1) := dk_44 (dk_at dksJ11_inflate_0 2 rfl rfl)
theorem dJ11_inflate_3 : decode cJ11_inflate 3 = .ok (.iload_n 3, 1) := dk_29 (dk_at dksJ11_inflate_0 3 rfl rfl)
theorem dJ11_inflate_4 : decode cJ11_inflate 4 = .ok (.iload 4, 2) := dk_21 4 (dk_at dksJ11_inflate_0 4 rfl rfl)
theorem dJ11_inflate_6 : decode cJ11_inflate 6 = .ok (.invokestatic 240, 3) := dk_184 0 240 (dk_at dksJ11_inflate_0 6 rfl rfl)
theorem dJ11_inflate_9 : decode cJ11_inflate 9 = .ok (.return_, 1) := dk_177 (dk_at dksJ11_inflate_0 9 rfl rfl)
abbrev cJ11_equals : ByteArray := prog_42_method_13_code
def yJ11_equals : MethodName := ⟨RJ11, "equals", "([B[B)Z"⟩
def dkwJ11_equals_1 : List UInt8 := [3, 172, 132, 2, 1, 167, 255, 236, 4, 172, 3, 172]
abbrev dktJ11_equals_1 : List UInt8 := dkwJ11_equals_1 ++ []
def dkwJ11_equals_0 : List UInt8 := [42, 190, 43, 190, 160, 0, 30, 3, 61, 28, 42, 190, 162, 0, 20, 42, 28, 51, 43, 28, 51, 159, 0, 5]
abbrev dktJ11_equals_0 : List UInt8 := dkwJ11_equals_0 ++ dktJ11_equals_1
theorem dksJ11_equals_0 : cJ11_equals.data.toList.drop 0 = dktJ11_equals_0 := by decide +kernel
theorem dksJ11_equals_1 : cJ11_equals.data.toList.drop 24 = dktJ11_equals_1 := dk_seg dksJ11_equals_0 24 rfl rfl
theorem dJ11_equals_0 : decode cJ11_equals 0 = .ok (.aload_n 0, 1) := dk_42 (dk_at dksJ11_equals_0 0 rfl rfl)
theorem dJ11_equals_1 : decode cJ11_equals 1 = .ok (.arraylength, 1) := dk_190 (dk_at dksJ11_equals_0 1 rfl rfl)
theorem dJ11_equals_2 : decode cJ11_equals 2 = .ok (.aload_n 1, 1) := dk_43 (dk_at dksJ11_equals_0 2 rfl rfl)
theorem dJ11_equals_3 : decode cJ11_equals 3 = .ok (.arraylength, 1) := dk_190 (dk_at dksJ11_equals_0 3 rfl rfl)
theorem dJ11_equals_4 : decode cJ11_equals 4 = .ok (.if_icmp .ne 30, 3) := dk_160 0 30 (dk_at dksJ11_equals_0 4 rfl rfl)
theorem dJ11_equals_7 : decode cJ11_equals 7 = .ok (.iconst 0, 1) := dk_3 (dk_at dksJ11_equals_0 7 rfl rfl)
theorem dJ11_equals_8 : decode cJ11_equals 8 = .ok (.istore_n 2, 1) := dk_61 (dk_at dksJ11_equals_0 8 rfl rfl)
theorem dJ11_equals_9 : decode cJ11_equals 9 = .ok (.iload_n 2, 1) := dk_28 (dk_at dksJ11_equals_0 9 rfl rfl)
theorem dJ11_equals_10 : decode cJ11_equals 10 = .ok (.aload_n 0, 1) := dk_42 (dk_at dksJ11_equals_0 10 rfl rfl)
theorem dJ11_equals_11 : decode cJ11_equals 11 = .ok (.arraylength, 1) := dk_190 (dk_at dksJ11_equals_0 11 rfl rfl)
theorem dJ11_equals_12 : decode cJ11_equals 12 = .ok (.if_icmp .ge 20, 3) := dk_162 0 20 (dk_at dksJ11_equals_0 12 rfl rfl)
theorem dJ11_equals_15 : decode cJ11_equals 15 = .ok (.aload_n 0, 1) := dk_42 (dk_at dksJ11_equals_0 15 rfl rfl)
theorem dJ11_equals_16 : decode cJ11_equals 16 = .ok (.iload_n 2, 1) := dk_28 (dk_at dksJ11_equals_0 16 rfl rfl)
theorem dJ11_equals_17 : decode cJ11_equals 17 = .ok (.baload, 1) := dk_51 (dk_at dksJ11_equals_0 17 rfl rfl)
theorem dJ11_equals_18 : decode cJ11_equals 18 = .ok (.aload_n 1, 1) := dk_43 (dk_at dksJ11_equals_0 18 rfl rfl)
theorem dJ11_equals_19 : decode cJ11_equals 19 = .ok (.iload_n 2, 1) := dk_28 (dk_at dksJ11_equals_0 19 rfl rfl)
theorem dJ11_equals_20 : decode cJ11_equals 20 = .ok (.baload, 1) := dk_51 (dk_at dksJ11_equals_0 20 rfl rfl)
theorem dJ11_equals_21 : decode cJ11_equals 21 = .ok (.if_icmp .eq 5, 3) := dk_159 0 5 (dk_at dksJ11_equals_0 21 rfl rfl)
theorem dJ11_equals_24 : decode cJ11_equals 24 = .ok (.iconst 0, 1) := dk_3 (dk_at dksJ11_equals_1 0 rfl rfl)
theorem dJ11_equals_25 : decode cJ11_equals 25 = .ok (.ireturn, 1) := dk_172 (dk_at dksJ11_equals_1 1 rfl rfl)
theorem dJ11_equals_26 : decode cJ11_equals 26 = .ok (.iinc 2 1, 3) := dk_132 2 1 (dk_at dksJ11_equals_1 2 rfl rfl)
theorem dJ11_equals_29 : decode cJ11_equals 29 = .ok (.goto (-20), 3) := dk_167 255 236 (dk_at dksJ11_equals_1 5 rfl rfl)
theorem dJ11_equals_32 : decode cJ11_equals 32 = .ok (.iconst 1, 1) := dk_4 (dk_at dksJ11_equals_1 8 rfl rfl)
theorem dJ11_equals_33 : decode cJ11_equals 33 = .ok (.ireturn, 1) := dk_172 (dk_at dksJ11_equals_1 9 rfl rfl)
theorem dJ11_equals_34 : decode cJ11_equals 34 = .ok (.iconst 0, 1) := dk_3 (dk_at dksJ11_equals_1 10 rfl rfl)
theorem dJ11_equals_35 : decode cJ11_equals 35 = .ok (.ireturn, 1) := dk_172 (dk_at dksJ11_equals_1 11 rfl rfl)
abbrev cJ11_charAt : ByteArray := prog_42_method_2_code
def yJ11_charAt : MethodName := ⟨RJ11, "charAt", "([BI)C"⟩
def dkwJ11_charAt_0 : List UInt8 := [27, 42, 190, 184, 0, 9, 42, 27, 51, 17, 0, 255, 126, 146, 172]
abbrev dktJ11_charAt_0 : List UInt8 := dkwJ11_charAt_0 ++ []
theorem dksJ11_charAt_0 : cJ11_charAt.data.toList.drop 0 = dktJ11_charAt_0 := by decide +kernel
theorem dJ11_charAt_0 : decode cJ11_charAt 0 = .ok (.iload_n 1, 1) := dk_27 (dk_at dksJ11_charAt_0 0 rfl rfl)
theorem dJ11_charAt_1 : decode cJ11_charAt 1 = .ok (.aload_n 0, 1) := dk_42 (dk_at dksJ11_charAt_0 1 rfl rfl)
theorem dJ11_charAt_2 : decode cJ11_charAt 2 = .ok (.arraylength, 1) := dk_190 (dk_at dksJ11_charAt_0 2 rfl rfl)
theorem dJ11_charAt_3 : decode cJ11_charAt 3 = .ok (.invokestatic 9, 3) := dk_184 0 9 (dk_at dksJ11_charAt_0 3 rfl rfl)
theorem dJ11_charAt_6 : decode cJ11_charAt 6 = .ok (.aload_n 0, 1) := dk_42 (dk_at dksJ11_charAt_0 6 rfl rfl)
theorem dJ11_charAt_7 : decode cJ11_charAt 7 = .ok (.iload_n 1, 1) := dk_27 (dk_at dksJ11_charAt_0 7 rfl rfl)
theorem dJ11_charAt_8 : decode cJ11_charAt 8 = .ok (.baload, 1) := dk_51 (dk_at dksJ11_charAt_0 8 rfl rfl)
theorem dJ11_charAt_9 : decode cJ11_charAt 9 = .ok (.sipush 255, 3) := dk_17 0 255 (dk_at dksJ11_charAt_0 9 rfl rfl)
theorem dJ11_charAt_12 : decode cJ11_charAt 12 = .ok (.iand, 1) := dk_126 (dk_at dksJ11_charAt_0 12 rfl rfl)
theorem dJ11_charAt_13 : decode cJ11_charAt 13 = .ok (.i2c, 1) := dk_146 (dk_at dksJ11_charAt_0 13 rfl rfl)
theorem dJ11_charAt_14 : decode cJ11_charAt 14 = .ok (.ireturn, 1) := dk_172 (dk_at dksJ11_charAt_0 14 rfl rfl)
abbrev cJ11_newString : ByteArray := prog_42_method_47_code
def yJ11_newString : MethodName := ⟨RJ11, "newString", "([BII)Ljava/lang/String;"⟩
def dkwJ11_newString_0 : List UInt8 := [28, 154, 0, 6, 18, 151, 176, 187, 0, 1, 89, 42, 27, 27, 28, 96, 184, 0, 232, 3, 183, 0, 112, 176]
abbrev dktJ11_newString_0 : List UInt8 := dkwJ11_newString_0 ++ []
theorem dksJ11_newString_0 : cJ11_newString.data.toList.drop 0 = dktJ11_newString_0 := by decide +kernel
theorem dJ11_newString_0 : decode cJ11_newString 0 = .ok (.iload_n 2, 1) := dk_28 (dk_at dksJ11_newString_0 0 rfl rfl)
theorem dJ11_newString_1 : decode cJ11_newString 1 = .ok (.ifCond .ne 6, 3) := dk_154 0 6 (dk_at dksJ11_newString_0 1 rfl rfl)
theorem dJ11_newString_4 : decode cJ11_newString 4 = .ok (.ldc 151, 2) := dk_18 151 (dk_at dksJ11_newString_0 4 rfl rfl)
theorem dJ11_newString_6 : decode cJ11_newString 6 = .ok (.areturn, 1) := dk_176 (dk_at dksJ11_newString_0 6 rfl rfl)
theorem dJ11_newString_7 : decode cJ11_newString 7 = .ok (.new 1, 3) := dk_187 0 1 (dk_at dksJ11_newString_0 7 rfl rfl)
theorem dJ11_newString_10 : decode cJ11_newString 10 = .ok (.dup, 1) := dk_89 (dk_at dksJ11_newString_0 10 rfl rfl)
theorem dJ11_newString_11 : decode cJ11_newString 11 = .ok (.aload_n 0, 1) := dk_42 (dk_at dksJ11_newString_0 11 rfl rfl)
theorem dJ11_newString_12 : decode cJ11_newString 12 = .ok (.iload_n 1, 1) := dk_27 (dk_at dksJ11_newString_0 12 rfl rfl)
theorem dJ11_newString_13 : decode cJ11_newString 13 = .ok (.iload_n 1, 1) := dk_27 (dk_at dksJ11_newString_0 13 rfl rfl)
theorem dJ11_newString_14 : decode cJ11_newString 14 = .ok (.iload_n 2, 1) := dk_28 (dk_at dksJ11_newString_0 14 rfl rfl)
theorem dJ11_newString_15 : decode cJ11_newString 15 = .ok (.iadd, 1) := dk_96 (dk_at dksJ11_newString_0 15 rfl rfl)
theorem dJ11_newString_16 : decode cJ11_newString 16 = .ok (.invokestatic 232, 3) := dk_184 0 232 (dk_at dksJ11_newString_0 16 rfl rfl)
theorem dJ11_newString_19 : decode cJ11_newString 19 = .ok (.iconst 0, 1) := dk_3 (dk_at dksJ11_newString_0 19 rfl rfl)
theorem dJ11_newString_20 : decode cJ11_newString 20 = .ok (.invokespecial 112, 3) := dk_183 0 112 (dk_at dksJ11_newString_0 20 rfl rfl)
theorem dJ11_newString_23 : decode cJ11_newString 23 = .ok (.areturn, 1) := dk_176 (dk_at dksJ11_newString_0 23 rfl rfl)
theorem q144 : (Jvm.Cond.initialized "java/lang/StringLatin1") ∈ lw_all := lw_g (lw_at lw_m1 19 rfl) rfl
theorem q400 : (Jvm.Cond.static ({ cls := "java/lang/StringLatin1", name := "canEncode", desc := "(C)Z" } : Jvm.MethodName)) ∈ lw_all := lw_g (lw_at lw_m2 35 rfl) rfl
theorem q401 : (Jvm.Cond.code ({ cls := "java/lang/StringLatin1", name := "canEncode", desc := "(C)Z" } : Jvm.MethodName) prog_42_method_3_code (1 : Nat) (Option.some Jvm.ClassFile.FieldType.boolean)) ∈ lw_all := lw_g (lw_at lw_m2 36 rfl) rfl
theorem q407 : (Jvm.Cond.static ({ cls := "java/lang/StringLatin1", name := "inflate", desc := "([BI[BII)V" } : Jvm.MethodName)) ∈ lw_all := lw_g (lw_at lw_m2 42 rfl) rfl
theorem q408 : (Jvm.Cond.code ({ cls := "java/lang/StringLatin1", name := "inflate", desc := "([BI[BII)V" } : Jvm.MethodName) prog_42_method_50_code (5 : Nat) (Option.none : Option Jvm.ClassFile.FieldType)) ∈ lw_all := lw_g (lw_at lw_m2 43 rfl) rfl
theorem q409 : (Jvm.Cond.methodLink "java/lang/StringLatin1" (240 : Nat) ({ cls := "java/lang/StringUTF16", name := "inflate", desc := "([BI[BII)V" } : Jvm.MethodName)) ∈ lw_all := lw_g (lw_at lw_m2 44 rfl) rfl
theorem q639 : (Jvm.Cond.static ({ cls := "java/lang/StringLatin1", name := "equals", desc := "([B[B)Z" } : Jvm.MethodName)) ∈ lw_all := lw_g (lw_at lw_m3 34 rfl) rfl
theorem q640 : (Jvm.Cond.code ({ cls := "java/lang/StringLatin1", name := "equals", desc := "([B[B)Z" } : Jvm.MethodName) prog_42_method_13_code (3 : Nat) (Option.some Jvm.ClassFile.FieldType.boolean)) ∈ lw_all := lw_g (lw_at lw_m3 35 rfl) rfl
theorem q1064 : (Jvm.Cond.static ({ cls := "java/lang/StringLatin1", name := "charAt", desc := "([BI)C" } : Jvm.MethodName)) ∈ lw_all := lw_g (lw_at lw_m4 219 rfl) rfl
theorem q1065 : (Jvm.Cond.code ({ cls := "java/lang/StringLatin1", name := "charAt", desc := "([BI)C" } : Jvm.MethodName) prog_42_method_2_code (2 : Nat) (Option.some Jvm.ClassFile.FieldType.char)) ∈ lw_all := lw_g (lw_at lw_m4 220 rfl) rfl
theorem q1066 : (Jvm.Cond.methodLink "java/lang/StringLatin1" (9 : Nat) ({ cls := "java/lang/String", name := "checkIndex", desc := "(II)V" } : Jvm.MethodName)) ∈ lw_all := lw_g (lw_at lw_m4 221 rfl) rfl
theorem q1108 : (Jvm.Cond.static ({ cls := "java/lang/StringLatin1", name := "newString", desc := "([BII)Ljava/lang/String;" } : Jvm.MethodName)) ∈ lw_all := lw_g (lw_at lw_m5 23 rfl) rfl
theorem q1109 : (Jvm.Cond.code ({ cls := "java/lang/StringLatin1", name := "newString", desc := "([BII)Ljava/lang/String;" } : Jvm.MethodName) prog_42_method_47_code (3 : Nat) (Option.some (Jvm.ClassFile.FieldType.object "java/lang/String"))) ∈ lw_all := lw_g (lw_at lw_m5 24 rfl) rfl
theorem q1110 : (Jvm.Cond.stringRef "java/lang/StringLatin1" (151 : Nat) "") ∈ lw_tbl := lw_at lw_m5 25 rfl
theorem q1111 : (Jvm.Cond.classLink "java/lang/StringLatin1" (1 : Nat) "java/lang/String") ∈ lw_all := lw_g (lw_at lw_m5 26 rfl) rfl
theorem q1112 : (Jvm.Cond.methodLink "java/lang/StringLatin1" (232 : Nat) ({ cls := "java/util/Arrays", name := "copyOfRange", desc := "([BII)[B" } : Jvm.MethodName)) ∈ lw_all := lw_g (lw_at lw_m5 27 rfl) rfl
theorem q1113 : (Jvm.Cond.methodLink "java/lang/StringLatin1" (112 : Nat) ({ cls := "java/lang/String", name := "<init>", desc := "([BB)V" } : Jvm.MethodName)) ∈ lw_all := lw_g (lw_at lw_m5 28 rfl) rfl

/-! jdk/internal/util/Preconditions -/
set_option maxRecDepth 100000
def RJ12 : String := "jdk/internal/util/Preconditions"
abbrev cJ12_checkFromIndexSize : ByteArray := prog_62_method_13_code
def yJ12_checkFromIndexSize : MethodName := ⟨RJ12, "checkFromIndexSize", "(IIILjava/util/function/BiFunction;)I"⟩
def dkwJ12_checkFromIndexSize_1 : List UInt8 := [172]
abbrev dktJ12_checkFromIndexSize_1 : List UInt8 := dkwJ12_checkFromIndexSize_1 ++ []
def dkwJ12_checkFromIndexSize_0 : List UInt8 := [28, 26, 128, 27, 128, 155, 0, 10, 27, 28, 26, 100, 164, 0, 11, 45, 26, 27, 28, 184, 0, 103, 191, 26]
abbrev dktJ12_checkFromIndexSize_0 : List UInt8 := dkwJ12_checkFromIndexSize_0 ++ dktJ12_checkFromIndexSize_1
theorem dksJ12_checkFromIndexSize_0 : cJ12_checkFromIndexSize.data.toList.drop 0 = dktJ12_checkFromIndexSize_0 := by decide +kernel
theorem dksJ12_checkFromIndexSize_1 : cJ12_checkFromIndexSize.data.toList.drop 24 = dktJ12_checkFromIndexSize_1 := dk_seg dksJ12_checkFromIndexSize_0 24 rfl rfl
theorem dJ12_checkFromIndexSize_0 : decode cJ12_checkFromIndexSize 0 = .ok (.iload_n 2, 1) := dk_28 (dk_at dksJ12_checkFromIndexSize_0 0 rfl rfl)
theorem dJ12_checkFromIndexSize_1 : decode cJ12_checkFromIndexSize 1 = .ok (.iload_n 0, 1) := dk_26 (dk_at dksJ12_checkFromIndexSize_0 1 rfl rfl)
theorem dJ12_checkFromIndexSize_2 : decode cJ12_checkFromIndexSize 2 = .ok (.ior, 1) := dk_128 (dk_at dksJ12_checkFromIndexSize_0 2 rfl rfl)
theorem dJ12_checkFromIndexSize_3 : decode cJ12_checkFromIndexSize 3 = .ok (.iload_n 1, 1) := dk_27 (dk_at dksJ12_checkFromIndexSize_0 3 rfl rfl)
theorem dJ12_checkFromIndexSize_4 : decode cJ12_checkFromIndexSize 4 = .ok (.ior, 1) := dk_128 (dk_at dksJ12_checkFromIndexSize_0 4 rfl rfl)
theorem dJ12_checkFromIndexSize_5 : decode cJ12_checkFromIndexSize 5 = .ok (.ifCond .lt 10, 3) := dk_155 0 10 (dk_at dksJ12_checkFromIndexSize_0 5 rfl rfl)
theorem dJ12_checkFromIndexSize_8 : decode cJ12_checkFromIndexSize 8 = .ok (.iload_n 1, 1) := dk_27 (dk_at dksJ12_checkFromIndexSize_0 8 rfl rfl)
theorem dJ12_checkFromIndexSize_9 : decode cJ12_checkFromIndexSize 9 = .ok (.iload_n 2, 1) := dk_28 (dk_at dksJ12_checkFromIndexSize_0 9 rfl rfl)
theorem dJ12_checkFromIndexSize_10 : decode cJ12_checkFromIndexSize 10 = .ok (.iload_n 0, 1) := dk_26 (dk_at dksJ12_checkFromIndexSize_0 10 rfl rfl)
theorem dJ12_checkFromIndexSize_11 : decode cJ12_checkFromIndexSize 11 = .ok (.isub, 1) := dk_100 (dk_at dksJ12_checkFromIndexSize_0 11 rfl rfl)
theorem dJ12_checkFromIndexSize_12 : decode cJ12_checkFromIndexSize 12 = .ok (.if_icmp .le 11, 3) := dk_164 0 11 (dk_at dksJ12_checkFromIndexSize_0 12 rfl rfl)
theorem dJ12_checkFromIndexSize_15 : decode cJ12_checkFromIndexSize 15 = .ok (.aload_n 3, 1) := dk_45 (dk_at dksJ12_checkFromIndexSize_0 15 rfl rfl)
theorem dJ12_checkFromIndexSize_16 : decode cJ12_checkFromIndexSize 16 = .ok (.iload_n 0, 1) := dk_26 (dk_at dksJ12_checkFromIndexSize_0 16 rfl rfl)
theorem dJ12_checkFromIndexSize_17 : decode cJ12_checkFromIndexSize 17 = .ok (.iload_n 1, 1) := dk_27 (dk_at dksJ12_checkFromIndexSize_0 17 rfl rfl)
theorem dJ12_checkFromIndexSize_18 : decode cJ12_checkFromIndexSize 18 = .ok (.iload_n 2, 1) := dk_28 (dk_at dksJ12_checkFromIndexSize_0 18 rfl rfl)
theorem dJ12_checkFromIndexSize_19 : decode cJ12_checkFromIndexSize 19 = .ok (.invokestatic 103, 3) := dk_184 0 103 (dk_at dksJ12_checkFromIndexSize_0 19 rfl rfl)
theorem dJ12_checkFromIndexSize_22 : decode cJ12_checkFromIndexSize 22 = .ok (.athrow, 1) := dk_191 (dk_at dksJ12_checkFromIndexSize_0 22 rfl rfl)
theorem dJ12_checkFromIndexSize_23 : decode cJ12_checkFromIndexSize 23 = .ok (.iload_n 0, 1) := dk_26 (dk_at dksJ12_checkFromIndexSize_0 23 rfl rfl)
theorem dJ12_checkFromIndexSize_24 : decode cJ12_checkFromIndexSize 24 = .ok (.ireturn, 1) := dk_172 (dk_at dksJ12_checkFromIndexSize_1 0 rfl rfl)
abbrev cJ12_checkIndex : ByteArray := prog_62_method_11_code
def yJ12_checkIndex : MethodName := ⟨RJ12, "checkIndex", "(IILjava/util/function/BiFunction;)I"⟩
def dkwJ12_checkIndex_0 : List UInt8 := [26, 155, 0, 8, 26, 27, 161, 0, 10, 44, 26, 27, 184, 0, 95, 191, 26, 172]
abbrev dktJ12_checkIndex_0 : List UInt8 := dkwJ12_checkIndex_0 ++ []
theorem dksJ12_checkIndex_0 : cJ12_checkIndex.data.toList.drop 0 = dktJ12_checkIndex_0 := by decide +kernel
theorem dJ12_checkIndex_0 : decode cJ12_checkIndex 0 = .ok (.iload_n 0, 1) := dk_26 (dk_at dksJ12_checkIndex_0 0 rfl rfl)
theorem dJ12_checkIndex_1 : decode cJ12_checkIndex 1 = .ok (.ifCond .lt 8, 3) := dk_155 0 8 (dk_at dksJ12_checkIndex_0 1 rfl rfl)
theorem dJ12_checkIndex_4 : decode cJ12_checkIndex 4 = .ok (.iload_n 0, 1) := dk_26 (dk_at dksJ12_checkIndex_0 4 rfl rfl)
theorem dJ12_checkIndex_5 : decode cJ12_checkIndex 5 = .ok (.iload_n 1, 1) := dk_27 (dk_at dksJ12_checkIndex_0 5 rfl rfl)
theorem dJ12_checkIndex_6 : decode cJ12_checkIndex 6 = .ok (.if_icmp .lt 10, 3) := dk_161 0 10 (dk_at dksJ12_checkIndex_0 6 rfl rfl)
theorem dJ12_checkIndex_9 : decode cJ12_checkIndex 9 = .ok (.aload_n 2, 1) := dk_44 (dk_at dksJ12_checkIndex_0 9 rfl rfl)
theorem dJ12_checkIndex_10 : decode cJ12_checkIndex 10 = .ok (.iload_n 0, 1) := dk_26 (dk_at dksJ12_checkIndex_0 10 rfl rfl)
theorem dJ12_checkIndex_11 : decode cJ12_checkIndex 11 = .ok (.iload_n 1, 1) := dk_27 (dk_at dksJ12_checkIndex_0 11 rfl rfl)
theorem dJ12_checkIndex_12 : decode cJ12_checkIndex 12 = .ok (.invokestatic 95, 3) := dk_184 0 95 (dk_at dksJ12_checkIndex_0 12 rfl rfl)
theorem dJ12_checkIndex_15 : decode cJ12_checkIndex 15 = .ok (.athrow, 1) := dk_191 (dk_at dksJ12_checkIndex_0 15 rfl rfl)
theorem dJ12_checkIndex_16 : decode cJ12_checkIndex 16 = .ok (.iload_n 0, 1) := dk_26 (dk_at dksJ12_checkIndex_0 16 rfl rfl)
theorem dJ12_checkIndex_17 : decode cJ12_checkIndex 17 = .ok (.ireturn, 1) := dk_172 (dk_at dksJ12_checkIndex_0 17 rfl rfl)
abbrev cJ12_checkFromToIndex : ByteArray := prog_62_method_12_code
def yJ12_checkFromToIndex : MethodName := ⟨RJ12, "checkFromToIndex", "(IIILjava/util/function/BiFunction;)I"⟩
def dkwJ12_checkFromToIndex_0 : List UInt8 := [26, 155, 0, 13, 26, 27, 163, 0, 8, 27, 28, 164, 0, 11, 45, 26, 27, 28, 184, 0, 99, 191, 26, 172]
abbrev dktJ12_checkFromToIndex_0 : List UInt8 := dkwJ12_checkFromToIndex_0 ++ []
theorem dksJ12_checkFromToIndex_0 : cJ12_checkFromToIndex.data.toList.drop 0 = dktJ12_checkFromToIndex_0 := by decide +kernel
theorem dJ12_checkFromToIndex_0 : decode cJ12_checkFromToIndex 0 = .ok (.iload_n 0, 1) := dk_26 (dk_at dksJ12_checkFromToIndex_0 0 rfl rfl)
theorem dJ12_checkFromToIndex_1 : decode cJ12_checkFromToIndex 1 = .ok (.ifCond .lt 13, 3) := dk_155 0 13 (dk_at dksJ12_checkFromToIndex_0 1 rfl rfl)
theorem dJ12_checkFromToIndex_4 : decode cJ12_checkFromToIndex 4 = .ok (.iload_n 0, 1) := dk_26 (dk_at dksJ12_checkFromToIndex_0 4 rfl rfl)
theorem dJ12_checkFromToIndex_5 : decode cJ12_checkFromToIndex 5 = .ok (.iload_n 1, 1) := dk_27 (dk_at dksJ12_checkFromToIndex_0 5 rfl rfl)
theorem dJ12_checkFromToIndex_6 : decode cJ12_checkFromToIndex 6 = .ok (.if_icmp .gt 8, 3) := dk_163 0 8 (dk_at dksJ12_checkFromToIndex_0 6 rfl rfl)
theorem dJ12_checkFromToIndex_9 : decode cJ12_checkFromToIndex 9 = .ok (.iload_n 1, 1) := dk_27 (dk_at dksJ12_checkFromToIndex_0 9 rfl rfl)
theorem dJ12_checkFromToIndex_10 : decode cJ12_checkFromToIndex 10 = .ok (.iload_n 2, 1) := dk_28 (dk_at dksJ12_checkFromToIndex_0 10 rfl rfl)
theorem dJ12_checkFromToIndex_11 : decode cJ12_checkFromToIndex 11 = .ok (.if_icmp .le 11, 3) := dk_164 0 11 (dk_at dksJ12_checkFromToIndex_0 11 rfl rfl)
theorem dJ12_checkFromToIndex_14 : decode cJ12_checkFromToIndex 14 = .ok (.aload_n 3, 1) := dk_45 (dk_at dksJ12_checkFromToIndex_0 14 rfl rfl)
theorem dJ12_checkFromToIndex_15 : decode cJ12_checkFromToIndex 15 = .ok (.iload_n 0, 1) := dk_26 (dk_at dksJ12_checkFromToIndex_0 15 rfl rfl)
theorem dJ12_checkFromToIndex_16 : decode cJ12_checkFromToIndex 16 = .ok (.iload_n 1, 1) := dk_27 (dk_at dksJ12_checkFromToIndex_0 16 rfl rfl)
theorem dJ12_checkFromToIndex_17 : decode cJ12_checkFromToIndex 17 = .ok (.iload_n 2, 1) := dk_28 (dk_at dksJ12_checkFromToIndex_0 17 rfl rfl)
theorem dJ12_checkFromToIndex_18 : decode cJ12_checkFromToIndex 18 = .ok (.invokestatic 99, 3) := dk_184 0 99 (dk_at dksJ12_checkFromToIndex_0 18 rfl rfl)
theorem dJ12_checkFromToIndex_21 : decode cJ12_checkFromToIndex 21 = .ok (.athrow, 1) := dk_191 (dk_at dksJ12_checkFromToIndex_0 21 rfl rfl)
theorem dJ12_checkFromToIndex_22 : decode cJ12_checkFromToIndex 22 = .ok (.iload_n 0, 1) := dk_26 (dk_at dksJ12_checkFromToIndex_0 22 rfl rfl)
theorem dJ12_checkFromToIndex_23 : decode cJ12_checkFromToIndex 23 = .ok (.ireturn, 1) := dk_172 (dk_at dksJ12_checkFromToIndex_0 23 rfl rfl)
theorem q145 : (Jvm.Cond.initialized "jdk/internal/util/Preconditions") ∈ lw_all := lw_g (lw_at lw_m1 20 rfl) rfl
theorem q422 : (Jvm.Cond.laysStatic "jdk/internal/util/Preconditions" "SIOOBE_FORMATTER" "Ljava/util/function/BiFunction;") ∈ lw_tbl := lw_at lw_m2 57 rfl
theorem q424 : (Jvm.Cond.static ({ cls := "jdk/internal/util/Preconditions", name := "checkFromIndexSize", desc := "(IIILjava/util/function/BiFunction;)I" } : Jvm.MethodName)) ∈ lw_all := lw_g (lw_at lw_m2 59 rfl) rfl
theorem q425 : (Jvm.Cond.code ({ cls := "jdk/internal/util/Preconditions", name := "checkFromIndexSize", desc := "(IIILjava/util/function/BiFunction;)I" } : Jvm.MethodName) prog_62_method_13_code (4 : Nat) (Option.some Jvm.ClassFile.FieldType.int)) ∈ lw_all := lw_g (lw_at lw_m2 60 rfl) rfl
theorem q445 : (Jvm.Cond.static ({ cls := "jdk/internal/util/Preconditions", name := "checkIndex", desc := "(IILjava/util/function/BiFunction;)I" } : Jvm.MethodName)) ∈ lw_all := lw_g (lw_at lw_m2 80 rfl) rfl
theorem q446 : (Jvm.Cond.code ({ cls := "jdk/internal/util/Preconditions", name := "checkIndex", desc := "(IILjava/util/function/BiFunction;)I" } : Jvm.MethodName) prog_62_method_11_code (3 : Nat) (Option.some Jvm.ClassFile.FieldType.int)) ∈ lw_all := lw_g (lw_at lw_m2 81 rfl) rfl
theorem q1105 : (Jvm.Cond.static ({ cls := "jdk/internal/util/Preconditions", name := "checkFromToIndex", desc := "(IIILjava/util/function/BiFunction;)I" } : Jvm.MethodName)) ∈ lw_all := lw_g (lw_at lw_m5 20 rfl) rfl
theorem q1106 : (Jvm.Cond.code ({ cls := "jdk/internal/util/Preconditions", name := "checkFromToIndex", desc := "(IIILjava/util/function/BiFunction;)I" } : Jvm.MethodName) prog_62_method_12_code (4 : Nat) (Option.some Jvm.ClassFile.FieldType.int)) ∈ lw_all := lw_g (lw_at lw_m5 21 rfl) rfl

/-! java/lang/Throwable -/
set_option maxRecDepth 100000
def RJ13 : String := "java/lang/Throwable"
def TJ13 : u_T := fun k => match k with
  | 0 => ("java/lang/Throwable", "cause", "Ljava/lang/Throwable;", false)
  | 1 => ("java/lang/Throwable", "stackTrace", "[Ljava/lang/StackTraceElement;", false)
  | 2 => ("java/lang/Throwable", "suppressedExceptions", "Ljava/util/List;", false)
  | 3 => ("java/lang/Throwable", "detailMessage", "Ljava/lang/String;", false)
  | _ => ("java/lang/Throwable", "backtrace", "Ljava/lang/Object;", false)
def tyJ13 : Nat → FieldType := fun k => match k with
  | 0 => .object "java/lang/Throwable"
  | 1 => .array (.object "java/lang/StackTraceElement")
  | 2 => .object "java/util/List"
  | 3 => .object "java/lang/String"
  | _ => .object "java/lang/Object"
abbrev wsJ130 : List Cond := u_ws RJ13 TJ13 5
theorem nmJ13 : ∀ a, a < 5 → ∀ b, b < 5 → a ≠ b → (TJ13 a).2.1 ≠ (TJ13 b).2.1 := by decide +kernel
theorem tyJ13_ok : ∀ k, k < 5 → parseFieldDescriptor (TJ13 k).2.2.1 = some (tyJ13 k) := by decide +kernel
abbrev cJ13_init : ByteArray := prog_45_method_1_code
def yJ13_init : MethodName := ⟨RJ13, "<init>", "()V"⟩
def dkwJ13_init_1 : List UInt8 := [182, 0, 27, 87, 177]
abbrev dktJ13_init_1 : List UInt8 := dkwJ13_init_1 ++ []
def dkwJ13_init_0 : List UInt8 := [42, 183, 0, 1, 42, 42, 181, 0, 7, 42, 178, 0, 13, 181, 0, 17, 42, 178, 0, 20, 181, 0, 24, 42]
abbrev dktJ13_init_0 : List UInt8 := dkwJ13_init_0 ++ dktJ13_init_1
theorem dksJ13_init_0 : cJ13_init.data.toList.drop 0 = dktJ13_init_0 := by decide +kernel
theorem dksJ13_init_1 : cJ13_init.data.toList.drop 24 = dktJ13_init_1 := dk_seg dksJ13_init_0 24 rfl rfl
theorem dJ13_init_0 : decode cJ13_init 0 = .ok (.aload_n 0, 1) := dk_42 (dk_at dksJ13_init_0 0 rfl rfl)
theorem dJ13_init_1 : decode cJ13_init 1 = .ok (.invokespecial 1, 3) := dk_183 0 1 (dk_at dksJ13_init_0 1 rfl rfl)
theorem dJ13_init_4 : decode cJ13_init 4 = .ok (.aload_n 0, 1) := dk_42 (dk_at dksJ13_init_0 4 rfl rfl)
theorem dJ13_init_5 : decode cJ13_init 5 = .ok (.aload_n 0, 1) := dk_42 (dk_at dksJ13_init_0 5 rfl rfl)
theorem dJ13_init_6 : decode cJ13_init 6 = .ok (.putfield 7, 3) := dk_181 0 7 (dk_at dksJ13_init_0 6 rfl rfl)
theorem dJ13_init_9 : decode cJ13_init 9 = .ok (.aload_n 0, 1) := dk_42 (dk_at dksJ13_init_0 9 rfl rfl)
theorem dJ13_init_10 : decode cJ13_init 10 = .ok (.getstatic 13, 3) := dk_178 0 13 (dk_at dksJ13_init_0 10 rfl rfl)
theorem dJ13_init_13 : decode cJ13_init 13 = .ok (.putfield 17, 3) := dk_181 0 17 (dk_at dksJ13_init_0 13 rfl rfl)
theorem dJ13_init_16 : decode cJ13_init 16 = .ok (.aload_n 0, 1) := dk_42 (dk_at dksJ13_init_0 16 rfl rfl)
theorem dJ13_init_17 : decode cJ13_init 17 = .ok (.getstatic 20, 3) := dk_178 0 20 (dk_at dksJ13_init_0 17 rfl rfl)
theorem dJ13_init_20 : decode cJ13_init 20 = .ok (.putfield 24, 3) := dk_181 0 24 (dk_at dksJ13_init_0 20 rfl rfl)
theorem dJ13_init_23 : decode cJ13_init 23 = .ok (.aload_n 0, 1) := dk_42 (dk_at dksJ13_init_0 23 rfl rfl)
theorem dJ13_init_24 : decode cJ13_init 24 = .ok (.invokevirtual 27, 3) := dk_182 0 27 (dk_at dksJ13_init_1 0 rfl rfl)
theorem dJ13_init_27 : decode cJ13_init 27 = .ok (.pop, 1) := dk_87 (dk_at dksJ13_init_1 3 rfl rfl)
theorem dJ13_init_28 : decode cJ13_init 28 = .ok (.return_, 1) := dk_177 (dk_at dksJ13_init_1 4 rfl rfl)
abbrev cJ13_init_2 : ByteArray := prog_45_method_5_code
def yJ13_init_2 : MethodName := ⟨RJ13, "<init>", "(Ljava/lang/String;Ljava/lang/Throwable;ZZ)V"⟩
def dkwJ13_init_2_2 : List UInt8 := [44, 181, 0, 7, 29, 154, 0, 8, 42, 1, 181, 0, 24, 177]
abbrev dktJ13_init_2_2 : List UInt8 := dkwJ13_init_2_2 ++ []
def dkwJ13_init_2_1 : List UInt8 := [21, 4, 153, 0, 11, 42, 182, 0, 27, 87, 167, 0, 8, 42, 1, 181, 0, 17, 42, 43, 181, 0, 31, 42]
abbrev dktJ13_init_2_1 : List UInt8 := dkwJ13_init_2_1 ++ dktJ13_init_2_2
def dkwJ13_init_2_0 : List UInt8 := [42, 183, 0, 1, 42, 42, 181, 0, 7, 42, 178, 0, 13, 181, 0, 17, 42, 178, 0, 20, 181, 0, 24]
abbrev dktJ13_init_2_0 : List UInt8 := dkwJ13_init_2_0 ++ dktJ13_init_2_1
theorem dksJ13_init_2_0 : cJ13_init_2.data.toList.drop 0 = dktJ13_init_2_0 := by decide +kernel
theorem dksJ13_init_2_1 : cJ13_init_2.data.toList.drop 23 = dktJ13_init_2_1 := dk_seg dksJ13_init_2_0 23 rfl rfl
theorem dksJ13_init_2_2 : cJ13_init_2.data.toList.drop 47 = dktJ13_init_2_2 := dk_seg dksJ13_init_2_1 24 rfl rfl
theorem dJ13_init_2_0 : decode cJ13_init_2 0 = .ok (.aload_n 0, 1) := dk_42 (dk_at dksJ13_init_2_0 0 rfl rfl)
theorem dJ13_init_2_1 : decode cJ13_init_2 1 = .ok (.invokespecial 1, 3) := dk_183 0 1 (dk_at dksJ13_init_2_0 1 rfl rfl)
theorem dJ13_init_2_4 : decode cJ13_init_2 4 = .ok (.aload_n 0, 1) := dk_42 (dk_at dksJ13_init_2_0 4 rfl rfl)
theorem dJ13_init_2_5 : decode cJ13_init_2 5 = .ok (.aload_n 0, 1) := dk_42 (dk_at dksJ13_init_2_0 5 rfl rfl)
theorem dJ13_init_2_6 : decode cJ13_init_2 6 = .ok (.putfield 7, 3) := dk_181 0 7 (dk_at dksJ13_init_2_0 6 rfl rfl)
theorem dJ13_init_2_9 : decode cJ13_init_2 9 = .ok (.aload_n 0, 1) := dk_42 (dk_at dksJ13_init_2_0 9 rfl rfl)
theorem dJ13_init_2_10 : decode cJ13_init_2 10 = .ok (.getstatic 13, 3) := dk_178 0 13 (dk_at dksJ13_init_2_0 10 rfl rfl)
theorem dJ13_init_2_13 : decode cJ13_init_2 13 = .ok (.putfield 17, 3) := dk_181 0 17 (dk_at dksJ13_init_2_0 13 rfl rfl)
theorem dJ13_init_2_16 : decode cJ13_init_2 16 = .ok (.aload_n 0, 1) := dk_42 (dk_at dksJ13_init_2_0 16 rfl rfl)
theorem dJ13_init_2_17 : decode cJ13_init_2 17 = .ok (.getstatic 20, 3) := dk_178 0 20 (dk_at dksJ13_init_2_0 17 rfl rfl)
theorem dJ13_init_2_20 : decode cJ13_init_2 20 = .ok (.putfield 24, 3) := dk_181 0 24 (dk_at dksJ13_init_2_0 20 rfl rfl)
theorem dJ13_init_2_23 : decode cJ13_init_2 23 = .ok (.iload 4, 2) := dk_21 4 (dk_at dksJ13_init_2_1 0 rfl rfl)
theorem dJ13_init_2_25 : decode cJ13_init_2 25 = .ok (.ifCond .eq 11, 3) := dk_153 0 11 (dk_at dksJ13_init_2_1 2 rfl rfl)
theorem dJ13_init_2_28 : decode cJ13_init_2 28 = .ok (.aload_n 0, 1) := dk_42 (dk_at dksJ13_init_2_1 5 rfl rfl)
theorem dJ13_init_2_29 : decode cJ13_init_2 29 = .ok (.invokevirtual 27, 3) := dk_182 0 27 (dk_at dksJ13_init_2_1 6 rfl rfl)
theorem dJ13_init_2_32 : decode cJ13_init_2 32 = .ok (.pop, 1) := dk_87 (dk_at dksJ13_init_2_1 9 rfl rfl)
theorem dJ13_init_2_33 : decode cJ13_init_2 33 = .ok (.goto 8, 3) := dk_167 0 8 (dk_at dksJ13_init_2_1 10 rfl rfl)
theorem dJ13_init_2_36 : decode cJ13_init_2 36 = .ok (.aload_n 0, 1) := dk_42 (dk_at dksJ13_init_2_1 13 rfl rfl)
theorem dJ13_init_2_37 : decode cJ13_init_2 37 = .ok (.aconst_null, 1) := dk_1 (dk_at dksJ13_init_2_1 14 rfl rfl)
theorem dJ13_init_2_38 : decode cJ13_init_2 38 = .ok (.putfield 17, 3) := dk_181 0 17 (dk_at dksJ13_init_2_1 15 rfl rfl)
theorem dJ13_init_2_41 : decode cJ13_init_2 41 = .ok (.aload_n 0, 1) := dk_42 (dk_at dksJ13_init_2_1 18 rfl rfl)
theorem dJ13_init_2_42 : decode cJ13_init_2 42 = .ok (.aload_n 1, 1) := dk_43 (dk_at dksJ13_init_2_1 19 rfl rfl)
theorem dJ13_init_2_43 : decode cJ13_init_2 43 = .ok (.putfield 31, 3) := dk_181 0 31 (dk_at dksJ13_init_2_1 20 rfl rfl)
theorem dJ13_init_2_46 : decode cJ13_init_2 46 = .ok (.aload_n 0, 1) := dk_42 (dk_at dksJ13_init_2_1 23 rfl rfl)
theorem dJ13_init_2_47 : decode cJ13_init_2 47 = .ok (.aload_n 2, 1) := dk_44 (dk_at dksJ13_init_2_2 0 rfl rfl)
theorem dJ13_init_2_48 : decode cJ13_init_2 48 = .ok (.putfield 7, 3) := dk_181 0 7 (dk_at dksJ13_init_2_2 1 rfl rfl)
theorem dJ13_init_2_51 : decode cJ13_init_2 51 = .ok (.iload_n 3, 1) := dk_29 (dk_at dksJ13_init_2_2 4 rfl rfl)
theorem dJ13_init_2_52 : decode cJ13_init_2 52 = .ok (.ifCond .ne 8, 3) := dk_154 0 8 (dk_at dksJ13_init_2_2 5 rfl rfl)
theorem dJ13_init_2_55 : decode cJ13_init_2 55 = .ok (.aload_n 0, 1) := dk_42 (dk_at dksJ13_init_2_2 8 rfl rfl)
theorem dJ13_init_2_56 : decode cJ13_init_2 56 = .ok (.aconst_null, 1) := dk_1 (dk_at dksJ13_init_2_2 9 rfl rfl)
theorem dJ13_init_2_57 : decode cJ13_init_2 57 = .ok (.putfield 24, 3) := dk_181 0 24 (dk_at dksJ13_init_2_2 10 rfl rfl)
theorem dJ13_init_2_60 : decode cJ13_init_2 60 = .ok (.return_, 1) := dk_177 (dk_at dksJ13_init_2_2 13 rfl rfl)
theorem q148 : (Jvm.Cond.initialized "java/lang/Throwable") ∈ lw_all := lw_g (lw_at lw_m1 23 rfl) rfl
theorem q653 : (Jvm.Cond.declares ({ cls := "java/lang/Throwable", name := "<init>", desc := "()V" } : Jvm.MethodName)) ∈ lw_tbl := lw_at lw_m3 48 rfl
theorem q654 : (Jvm.Cond.declares ({ cls := "java/lang/Throwable", name := "<init>", desc := "(Ljava/lang/String;)V" } : Jvm.MethodName)) ∈ lw_tbl := lw_at lw_m3 49 rfl
theorem q658 : (Jvm.Cond.lays "java/lang/Throwable" "java/lang/Throwable" "cause" "Ljava/lang/Throwable;") ∈ lw_all := lw_g (lw_at lw_m3 53 rfl) rfl
theorem q660 : (Jvm.Cond.lays "java/lang/Throwable" "java/lang/Throwable" "stackTrace" "[Ljava/lang/StackTraceElement;") ∈ lw_all := lw_g (lw_at lw_m3 55 rfl) rfl
theorem q662 : (Jvm.Cond.lays "java/lang/Throwable" "java/lang/Throwable" "suppressedExceptions" "Ljava/util/List;") ∈ lw_all := lw_g (lw_at lw_m3 57 rfl) rfl
theorem q664 : (Jvm.Cond.lays "java/lang/Throwable" "java/lang/Throwable" "detailMessage" "Ljava/lang/String;") ∈ lw_all := lw_g (lw_at lw_m3 59 rfl) rfl
theorem q666 : (Jvm.Cond.lays "java/lang/Throwable" "java/lang/Throwable" "backtrace" "Ljava/lang/Object;") ∈ lw_all := lw_g (lw_at lw_m3 61 rfl) rfl
theorem q667 : (Jvm.Cond.fieldLink "java/lang/Throwable" (198 : Nat) "java/lang/Throwable" "backtrace" "Ljava/lang/Object;") ∈ lw_all := lw_g (lw_at lw_m3 62 rfl) rfl
theorem q668 : (Jvm.Cond.superclass "java/lang/Throwable" "java/lang/Object") ∈ lw_all := lw_g (lw_at lw_m3 63 rfl) rfl
theorem q669 : (Jvm.Cond.instanceMethod ({ cls := "java/lang/Throwable", name := "<init>", desc := "()V" } : Jvm.MethodName)) ∈ lw_all := lw_g (lw_at lw_m3 64 rfl) rfl
theorem q670 : (Jvm.Cond.code ({ cls := "java/lang/Throwable", name := "<init>", desc := "()V" } : Jvm.MethodName) prog_45_method_1_code (1 : Nat) (Option.none : Option Jvm.ClassFile.FieldType)) ∈ lw_all := lw_g (lw_at lw_m3 65 rfl) rfl
theorem q671 : (Jvm.Cond.methodLink "java/lang/Throwable" (1 : Nat) ({ cls := "java/lang/Object", name := "<init>", desc := "()V" } : Jvm.MethodName)) ∈ lw_all := lw_g (lw_at lw_m3 66 rfl) rfl
theorem q672 : (Jvm.Cond.fieldLink "java/lang/Throwable" (13 : Nat) "java/lang/Throwable" "UNASSIGNED_STACK" "[Ljava/lang/StackTraceElement;") ∈ lw_all := lw_g (lw_at lw_m3 67 rfl) rfl
theorem q673 : (Jvm.Cond.laysStatic "java/lang/Throwable" "UNASSIGNED_STACK" "[Ljava/lang/StackTraceElement;") ∈ lw_tbl := lw_at lw_m3 68 rfl
theorem q674 : (Jvm.Cond.fieldLink "java/lang/Throwable" (20 : Nat) "java/lang/Throwable" "SUPPRESSED_SENTINEL" "Ljava/util/List;") ∈ lw_all := lw_g (lw_at lw_m3 69 rfl) rfl
theorem q675 : (Jvm.Cond.laysStatic "java/lang/Throwable" "SUPPRESSED_SENTINEL" "Ljava/util/List;") ∈ lw_tbl := lw_at lw_m3 70 rfl
theorem q676 : (Jvm.Cond.methodLink "java/lang/Throwable" (27 : Nat) ({ cls := "java/lang/Throwable", name := "fillInStackTrace", desc := "()Ljava/lang/Throwable;" } : Jvm.MethodName)) ∈ lw_all := lw_g (lw_at lw_m3 71 rfl) rfl
theorem q677 : (Jvm.Cond.instanceMethod ({ cls := "java/lang/Throwable", name := "fillInStackTrace", desc := "()Ljava/lang/Throwable;" } : Jvm.MethodName)) ∈ lw_all := lw_g (lw_at lw_m3 72 rfl) rfl
theorem q678 : (Jvm.Cond.sameMethod "java/lang/Throwable" "java/lang/Throwable" "fillInStackTrace" "()Ljava/lang/Throwable;") ∈ lw_all := lw_g (lw_at lw_m3 73 rfl) rfl
theorem q682 : (Jvm.Cond.codeSync ({ cls := "java/lang/Throwable", name := "fillInStackTrace", desc := "()Ljava/lang/Throwable;" } : Jvm.MethodName) prog_45_method_18_code (1 : Nat) (Option.some (Jvm.ClassFile.FieldType.object "java/lang/Throwable"))) ∈ lw_all := lw_g (lw_at lw_m3 77 rfl) rfl
theorem q683 : (Jvm.Cond.methodLink "java/lang/Throwable" (202 : Nat) ({ cls := "java/lang/Throwable", name := "fillInStackTrace", desc := "(I)Ljava/lang/Throwable;" } : Jvm.MethodName)) ∈ lw_all := lw_g (lw_at lw_m3 78 rfl) rfl
theorem q684 : (Jvm.Cond.privateMethod ({ cls := "java/lang/Throwable", name := "fillInStackTrace", desc := "(I)Ljava/lang/Throwable;" } : Jvm.MethodName)) ∈ lw_tbl := lw_at lw_m3 79 rfl
theorem q685 : (Jvm.Cond.instanceMethod ({ cls := "java/lang/Throwable", name := "fillInStackTrace", desc := "(I)Ljava/lang/Throwable;" } : Jvm.MethodName)) ∈ lw_all := lw_g (lw_at lw_m3 80 rfl) rfl
theorem q686 : (Jvm.Cond.instantiable "java/lang/Throwable" (6 : Nat)) ∈ lw_all := lw_g (lw_at lw_m3 81 rfl) rfl
theorem q687 : (Jvm.Cond.native ({ cls := "java/lang/Throwable", name := "fillInStackTrace", desc := "(I)Ljava/lang/Throwable;" } : Jvm.MethodName)) ∈ lw_all := lw_g (lw_at lw_m3 82 rfl) rfl
theorem q701 : (Jvm.Cond.fieldLink "java/lang/Throwable" (198 : Nat) "java/lang/Throwable" "backtrace" "Ljava/lang/Object;") ∈ lw_all := lw_g (lw_at lw_m3 96 rfl) rfl
theorem q702 : (Jvm.Cond.fieldLink "java/lang/Throwable" (31 : Nat) "java/lang/Throwable" "detailMessage" "Ljava/lang/String;") ∈ lw_all := lw_g (lw_at lw_m3 97 rfl) rfl
theorem q703 : (Jvm.Cond.fieldLink "java/lang/Throwable" (7 : Nat) "java/lang/Throwable" "cause" "Ljava/lang/Throwable;") ∈ lw_all := lw_g (lw_at lw_m3 98 rfl) rfl
theorem q704 : (Jvm.Cond.fieldLink "java/lang/Throwable" (17 : Nat) "java/lang/Throwable" "stackTrace" "[Ljava/lang/StackTraceElement;") ∈ lw_all := lw_g (lw_at lw_m3 99 rfl) rfl
theorem q705 : (Jvm.Cond.fieldLink "java/lang/Throwable" (24 : Nat) "java/lang/Throwable" "suppressedExceptions" "Ljava/util/List;") ∈ lw_all := lw_g (lw_at lw_m3 100 rfl) rfl
theorem q710 : (Jvm.Cond.soleField "java/lang/Throwable" "backtrace") ∈ lw_all := lw_g (lw_at lw_m3 105 rfl) rfl
theorem q711 : (Jvm.Cond.soleField "java/lang/Throwable" "detailMessage") ∈ lw_all := lw_g (lw_at lw_m3 106 rfl) rfl
theorem q712 : (Jvm.Cond.soleField "java/lang/Throwable" "cause") ∈ lw_all := lw_g (lw_at lw_m3 107 rfl) rfl
theorem q713 : (Jvm.Cond.soleField "java/lang/Throwable" "stackTrace") ∈ lw_all := lw_g (lw_at lw_m3 108 rfl) rfl
theorem q715 : (Jvm.Cond.soleField "java/lang/Throwable" "depth") ∈ lw_all := lw_g (lw_at lw_m3 110 rfl) rfl
theorem q716 : (Jvm.Cond.soleField "java/lang/Throwable" "suppressedExceptions") ∈ lw_all := lw_g (lw_at lw_m3 111 rfl) rfl
theorem q1602 : (Jvm.Cond.instanceMethod ({ cls := "java/lang/Throwable", name := "<init>", desc := "(Ljava/lang/String;Ljava/lang/Throwable;ZZ)V" } : Jvm.MethodName)) ∈ lw_all := lw_g (lw_at lw_m7 37 rfl) rfl
theorem q1603 : (Jvm.Cond.code ({ cls := "java/lang/Throwable", name := "<init>", desc := "(Ljava/lang/String;Ljava/lang/Throwable;ZZ)V" } : Jvm.MethodName) prog_45_method_5_code (5 : Nat) (Option.none : Option Jvm.ClassFile.FieldType)) ∈ lw_all := lw_g (lw_at lw_m7 38 rfl) rfl
theorem q1840 : (Jvm.Cond.instanceMethod ({ cls := "java/lang/Throwable", name := "getCause", desc := "()Ljava/lang/Throwable;" } : Jvm.MethodName)) ∈ lw_all := lw_g (lw_at lw_m8 35 rfl) rfl
theorem q1841 : (Jvm.Cond.sameMethod "java/lang/Throwable" "java/lang/Throwable" "getCause" "()Ljava/lang/Throwable;") ∈ lw_all := lw_g (lw_at lw_m8 36 rfl) rfl
theorem q1846 : (Jvm.Cond.codeSync ({ cls := "java/lang/Throwable", name := "getCause", desc := "()Ljava/lang/Throwable;" } : Jvm.MethodName) prog_45_method_8_code (1 : Nat) (Option.some (Jvm.ClassFile.FieldType.object "java/lang/Throwable"))) ∈ lw_all := lw_g (lw_at lw_m8 41 rfl) rfl
theorem q2955 : (Jvm.Cond.sameMethod "java/lang/Throwable" "java/lang/Throwable" "fillInStackTrace" "(I)Ljava/lang/Throwable;") ∈ lw_all := lw_g (lw_at lw_m12 190 rfl) rfl
theorem q3002 : (Jvm.Cond.castable "java/lang/Throwable" "java/lang/Object") ∈ lw_tbl := lw_at lw_m12 237 rfl
theorem in_J13 : ∀ w ∈ wsJ130, w ∈ lw_all := lw_in wsJ130 [658, 660, 662, 664, 666] (by decide +kernel) (by decide +kernel)

/-! java/lang/Exception -/
set_option maxRecDepth 100000
def RJ14 : String := "java/lang/Exception"
abbrev cJ14_init : ByteArray := prog_33_method_1_code
def yJ14_init : MethodName := ⟨RJ14, "<init>", "()V"⟩
theorem dJ14_init_0 : decode cJ14_init 0 = .ok (.aload_n 0, 1) := by decide +kernel
theorem dJ14_init_1 : decode cJ14_init 1 = .ok (.invokespecial 1, 3) := by decide +kernel
theorem dJ14_init_4 : decode cJ14_init 4 = .ok (.return_, 1) := by decide +kernel
abbrev cJ14_init_2 : ByteArray := prog_33_method_5_code
def yJ14_init_2 : MethodName := ⟨RJ14, "<init>", "(Ljava/lang/String;Ljava/lang/Throwable;ZZ)V"⟩
def dkwJ14_init_2_0 : List UInt8 := [42, 43, 44, 29, 21, 4, 183, 0, 16, 177]
abbrev dktJ14_init_2_0 : List UInt8 := dkwJ14_init_2_0 ++ []
theorem dksJ14_init_2_0 : cJ14_init_2.data.toList.drop 0 = dktJ14_init_2_0 := by decide +kernel
theorem dJ14_init_2_0 : decode cJ14_init_2 0 = .ok (.aload_n 0, 1) := dk_42 (dk_at dksJ14_init_2_0 0 rfl rfl)
theorem dJ14_init_2_1 : decode cJ14_init_2 1 = .ok (.aload_n 1, 1) := dk_43 (dk_at dksJ14_init_2_0 1 rfl rfl)
theorem dJ14_init_2_2 : decode cJ14_init_2 2 = .ok (.aload_n 2, 1) := dk_44 (dk_at dksJ14_init_2_0 2 rfl rfl)
theorem dJ14_init_2_3 : decode cJ14_init_2 3 = .ok (.iload_n 3, 1) := dk_29 (dk_at dksJ14_init_2_0 3 rfl rfl)
theorem dJ14_init_2_4 : decode cJ14_init_2 4 = .ok (.iload 4, 2) := dk_21 4 (dk_at dksJ14_init_2_0 4 rfl rfl)
theorem dJ14_init_2_6 : decode cJ14_init_2 6 = .ok (.invokespecial 16, 3) := dk_183 0 16 (dk_at dksJ14_init_2_0 6 rfl rfl)
theorem dJ14_init_2_9 : decode cJ14_init_2 9 = .ok (.return_, 1) := dk_177 (dk_at dksJ14_init_2_0 9 rfl rfl)
theorem q149 : (Jvm.Cond.initialized "java/lang/Exception") ∈ lw_all := lw_g (lw_at lw_m1 24 rfl) rfl
theorem q651 : (Jvm.Cond.declares ({ cls := "java/lang/Exception", name := "<init>", desc := "()V" } : Jvm.MethodName)) ∈ lw_tbl := lw_at lw_m3 46 rfl
theorem q652 : (Jvm.Cond.declares ({ cls := "java/lang/Exception", name := "<init>", desc := "(Ljava/lang/String;)V" } : Jvm.MethodName)) ∈ lw_tbl := lw_at lw_m3 47 rfl
theorem q692 : (Jvm.Cond.instanceMethod ({ cls := "java/lang/Exception", name := "<init>", desc := "()V" } : Jvm.MethodName)) ∈ lw_all := lw_g (lw_at lw_m3 87 rfl) rfl
theorem q693 : (Jvm.Cond.code ({ cls := "java/lang/Exception", name := "<init>", desc := "()V" } : Jvm.MethodName) prog_33_method_1_code (1 : Nat) (Option.none : Option Jvm.ClassFile.FieldType)) ∈ lw_all := lw_g (lw_at lw_m3 88 rfl) rfl
theorem q694 : (Jvm.Cond.methodLink "java/lang/Exception" (1 : Nat) ({ cls := "java/lang/Throwable", name := "<init>", desc := "()V" } : Jvm.MethodName)) ∈ lw_all := lw_g (lw_at lw_m3 89 rfl) rfl
theorem q1599 : (Jvm.Cond.instanceMethod ({ cls := "java/lang/Exception", name := "<init>", desc := "(Ljava/lang/String;Ljava/lang/Throwable;ZZ)V" } : Jvm.MethodName)) ∈ lw_all := lw_g (lw_at lw_m7 34 rfl) rfl
theorem q1600 : (Jvm.Cond.code ({ cls := "java/lang/Exception", name := "<init>", desc := "(Ljava/lang/String;Ljava/lang/Throwable;ZZ)V" } : Jvm.MethodName) prog_33_method_5_code (5 : Nat) (Option.none : Option Jvm.ClassFile.FieldType)) ∈ lw_all := lw_g (lw_at lw_m7 35 rfl) rfl
theorem q1601 : (Jvm.Cond.methodLink "java/lang/Exception" (16 : Nat) ({ cls := "java/lang/Throwable", name := "<init>", desc := "(Ljava/lang/String;Ljava/lang/Throwable;ZZ)V" } : Jvm.MethodName)) ∈ lw_all := lw_g (lw_at lw_m7 36 rfl) rfl

/-! java/util/Objects -/
set_option maxRecDepth 100000
def RJ15 : String := "java/util/Objects"
abbrev cJ15_checkIndex : ByteArray := prog_56_method_17_code
def yJ15_checkIndex : MethodName := ⟨RJ15, "checkIndex", "(II)I"⟩
def dkwJ15_checkIndex_0 : List UInt8 := [26, 27, 1, 184, 0, 105, 172]
abbrev dktJ15_checkIndex_0 : List UInt8 := dkwJ15_checkIndex_0 ++ []
theorem dksJ15_checkIndex_0 : cJ15_checkIndex.data.toList.drop 0 = dktJ15_checkIndex_0 := by decide +kernel
theorem dJ15_checkIndex_0 : decode cJ15_checkIndex 0 = .ok (.iload_n 0, 1) := dk_26 (dk_at dksJ15_checkIndex_0 0 rfl rfl)
theorem dJ15_checkIndex_1 : decode cJ15_checkIndex 1 = .ok (.iload_n 1, 1) := dk_27 (dk_at dksJ15_checkIndex_0 1 rfl rfl)
theorem dJ15_checkIndex_2 : decode cJ15_checkIndex 2 = .ok (.aconst_null, 1) := dk_1 (dk_at dksJ15_checkIndex_0 2 rfl rfl)
theorem dJ15_checkIndex_3 : decode cJ15_checkIndex 3 = .ok (.invokestatic 105, 3) := dk_184 0 105 (dk_at dksJ15_checkIndex_0 3 rfl rfl)
theorem dJ15_checkIndex_6 : decode cJ15_checkIndex 6 = .ok (.ireturn, 1) := dk_172 (dk_at dksJ15_checkIndex_0 6 rfl rfl)
theorem q155 : (Jvm.Cond.initialized "java/util/Objects") ∈ lw_all := lw_g (lw_at lw_m1 30 rfl) rfl
theorem q964 : (Jvm.Cond.static ({ cls := "java/util/Objects", name := "checkIndex", desc := "(II)I" } : Jvm.MethodName)) ∈ lw_all := lw_g (lw_at lw_m4 119 rfl) rfl
theorem q965 : (Jvm.Cond.code ({ cls := "java/util/Objects", name := "checkIndex", desc := "(II)I" } : Jvm.MethodName) prog_56_method_17_code (2 : Nat) (Option.some Jvm.ClassFile.FieldType.int)) ∈ lw_all := lw_g (lw_at lw_m4 120 rfl) rfl
theorem q966 : (Jvm.Cond.methodLink "java/util/Objects" (105 : Nat) ({ cls := "jdk/internal/util/Preconditions", name := "checkIndex", desc := "(IILjava/util/function/BiFunction;)I" } : Jvm.MethodName)) ∈ lw_all := lw_g (lw_at lw_m4 121 rfl) rfl

/-! jdk/internal/misc/Unsafe -/
set_option maxRecDepth 100000
def RJ16 : String := "jdk/internal/misc/Unsafe"
abbrev cJ16_getLongUnaligned : ByteArray := prog_59_method_334_code
def yJ16_getLongUnaligned : MethodName := ⟨RJ16, "getLongUnaligned", "(Ljava/lang/Object;J)J"⟩
def dkwJ16_getLongUnaligned_7 : List UInt8 := [182, 0, 39, 184, 2, 197, 173]
abbrev dktJ16_getLongUnaligned_7 : List UInt8 := dkwJ16_getLongUnaligned_7 ++ []
def dkwJ16_getLongUnaligned_6 : List UInt8 := [20, 2, 195, 97, 182, 0, 39, 42, 43, 32, 20, 2, 190, 97, 182, 0, 39, 42, 43, 32, 20, 2, 184, 97]
abbrev dktJ16_getLongUnaligned_6 : List UInt8 := dkwJ16_getLongUnaligned_6 ++ dktJ16_getLongUnaligned_7
def dkwJ16_getLongUnaligned_5 : List UInt8 := [43, 32, 20, 1, 93, 97, 182, 0, 39, 42, 43, 32, 20, 0, 205, 97, 182, 0, 39, 42, 43, 32]
abbrev dktJ16_getLongUnaligned_5 : List UInt8 := dkwJ16_getLongUnaligned_5 ++ dktJ16_getLongUnaligned_6
def dkwJ16_getLongUnaligned_4 : List UInt8 := [43, 32, 182, 0, 39, 42, 43, 32, 10, 97, 182, 0, 39, 42, 43, 32, 20, 0, 203, 97, 182, 0, 39, 42]
abbrev dktJ16_getLongUnaligned_4 : List UInt8 := dkwJ16_getLongUnaligned_4 ++ dktJ16_getLongUnaligned_5
def dkwJ16_getLongUnaligned_3 : List UInt8 := [43, 32, 20, 0, 205, 97, 182, 0, 47, 42, 43, 32, 20, 2, 190, 97, 182, 0, 47, 184, 2, 192, 173, 42]
abbrev dktJ16_getLongUnaligned_3 : List UInt8 := dkwJ16_getLongUnaligned_3 ++ dktJ16_getLongUnaligned_4
def dkwJ16_getLongUnaligned_2 : List UInt8 := [10, 127, 9, 148, 154, 0, 43, 42, 43, 32, 182, 0, 47, 42, 43, 32, 20, 0, 203, 97, 182, 0, 47, 42]
abbrev dktJ16_getLongUnaligned_2 : List UInt8 := dkwJ16_getLongUnaligned_2 ++ dktJ16_getLongUnaligned_3
def dkwJ16_getLongUnaligned_1 : List UInt8 := [154, 0, 23, 42, 43, 32, 182, 0, 17, 42, 43, 32, 20, 0, 205, 97, 182, 0, 17, 184, 2, 186, 173, 32]
abbrev dktJ16_getLongUnaligned_1 : List UInt8 := dkwJ16_getLongUnaligned_1 ++ dktJ16_getLongUnaligned_2
def dkwJ16_getLongUnaligned_0 : List UInt8 := [32, 20, 2, 184, 127, 9, 148, 154, 0, 10, 42, 43, 32, 182, 0, 27, 173, 32, 20, 1, 93, 127, 9, 148]
abbrev dktJ16_getLongUnaligned_0 : List UInt8 := dkwJ16_getLongUnaligned_0 ++ dktJ16_getLongUnaligned_1
theorem dksJ16_getLongUnaligned_0 : cJ16_getLongUnaligned.data.toList.drop 0 = dktJ16_getLongUnaligned_0 := by decide +kernel
theorem dksJ16_getLongUnaligned_1 : cJ16_getLongUnaligned.data.toList.drop 24 = dktJ16_getLongUnaligned_1 := dk_seg dksJ16_getLongUnaligned_0 24 rfl rfl
theorem dksJ16_getLongUnaligned_2 : cJ16_getLongUnaligned.data.toList.drop 48 = dktJ16_getLongUnaligned_2 := dk_seg dksJ16_getLongUnaligned_1 24 rfl rfl
theorem dksJ16_getLongUnaligned_3 : cJ16_getLongUnaligned.data.toList.drop 72 = dktJ16_getLongUnaligned_3 := dk_seg dksJ16_getLongUnaligned_2 24 rfl rfl
theorem dksJ16_getLongUnaligned_4 : cJ16_getLongUnaligned.data.toList.drop 96 = dktJ16_getLongUnaligned_4 := dk_seg dksJ16_getLongUnaligned_3 24 rfl rfl
theorem dksJ16_getLongUnaligned_5 : cJ16_getLongUnaligned.data.toList.drop 120 = dktJ16_getLongUnaligned_5 := dk_seg dksJ16_getLongUnaligned_4 24 rfl rfl
theorem dksJ16_getLongUnaligned_6 : cJ16_getLongUnaligned.data.toList.drop 142 = dktJ16_getLongUnaligned_6 := dk_seg dksJ16_getLongUnaligned_5 22 rfl rfl
theorem dksJ16_getLongUnaligned_7 : cJ16_getLongUnaligned.data.toList.drop 166 = dktJ16_getLongUnaligned_7 := dk_seg dksJ16_getLongUnaligned_6 24 rfl rfl
theorem dJ16_getLongUnaligned_0 : decode cJ16_getLongUnaligned 0 = .ok (.lload_n 2, 1) := dk_32 (dk_at dksJ16_getLongUnaligned_0 0 rfl rfl)
theorem dJ16_getLongUnaligned_1 : decode cJ16_getLongUnaligned 1 = .ok (.ldc2_w 696, 3) := dk_20 2 184 (dk_at dksJ16_getLongUnaligned_0 1 rfl rfl)
theorem dJ16_getLongUnaligned_4 : decode cJ16_getLongUnaligned 4 = .ok (.land, 1) := dk_127 (dk_at dksJ16_getLongUnaligned_0 4 rfl rfl)
theorem dJ16_getLongUnaligned_5 : decode cJ16_getLongUnaligned 5 = .ok (.lconst 0, 1) := dk_9 (dk_at dksJ16_getLongUnaligned_0 5 rfl rfl)
theorem dJ16_getLongUnaligned_6 : decode cJ16_getLongUnaligned 6 = .ok (.lcmp, 1) := dk_148 (dk_at dksJ16_getLongUnaligned_0 6 rfl rfl)
theorem dJ16_getLongUnaligned_7 : decode cJ16_getLongUnaligned 7 = .ok (.ifCond .ne 10, 3) := dk_154 0 10 (dk_at dksJ16_getLongUnaligned_0 7 rfl rfl)
theorem dJ16_getLongUnaligned_10 : decode cJ16_getLongUnaligned 10 = .ok (.aload_n 0, 1) := dk_42 (dk_at dksJ16_getLongUnaligned_0 10 rfl rfl)
theorem dJ16_getLongUnaligned_11 : decode cJ16_getLongUnaligned 11 = .ok (.aload_n 1, 1) := dk_43 (dk_at dksJ16_getLongUnaligned_0 11 rfl rfl)
theorem dJ16_getLongUnaligned_12 : decode cJ16_getLongUnaligned 12 = .ok (.lload_n 2, 1) := dk_32 (dk_at dksJ16_getLongUnaligned_0 12 rfl rfl)
theorem dJ16_getLongUnaligned_13 : decode cJ16_getLongUnaligned 13 = .ok (.invokevirtual 27, 3) := dk_182 0 27 (dk_at dksJ16_getLongUnaligned_0 13 rfl rfl)
theorem dJ16_getLongUnaligned_16 : decode cJ16_getLongUnaligned 16 = .ok (.lreturn, 1) := dk_173 (dk_at dksJ16_getLongUnaligned_0 16 rfl rfl)
theorem dJ16_getLongUnaligned_17 : decode cJ16_getLongUnaligned 17 = .ok (.lload_n 2, 1) := dk_32 (dk_at dksJ16_getLongUnaligned_0 17 rfl rfl)
theorem dJ16_getLongUnaligned_18 : decode cJ16_getLongUnaligned 18 = .ok (.ldc2_w 349, 3) := dk_20 1 93 (dk_at dksJ16_getLongUnaligned_0 18 rfl rfl)
theorem dJ16_getLongUnaligned_21 : decode cJ16_getLongUnaligned 21 = .ok (.land, 1) := dk_127 (dk_at dksJ16_getLongUnaligned_0 21 rfl rfl)
theorem dJ16_getLongUnaligned_22 : decode cJ16_getLongUnaligned 22 = .ok (.lconst 0, 1) := dk_9 (dk_at dksJ16_getLongUnaligned_0 22 rfl rfl)
theorem dJ16_getLongUnaligned_23 : decode cJ16_getLongUnaligned 23 = .ok (.lcmp, 1) := dk_148 (dk_at dksJ16_getLongUnaligned_0 23 rfl rfl)
theorem dJ16_getLongUnaligned_24 : decode cJ16_getLongUnaligned 24 = .ok (.ifCond .ne 23, 3) := dk_154 0 23 (dk_at dksJ16_getLongUnaligned_1 0 rfl rfl)
theorem dJ16_getLongUnaligned_27 : decode cJ16_getLongUnaligned 27 = .ok (.aload_n 0, 1) := dk_42 (dk_at dksJ16_getLongUnaligned_1 3 rfl rfl)
theorem dJ16_getLongUnaligned_28 : decode cJ16_getLongUnaligned 28 = .ok (.aload_n 1, 1) := dk_43 (dk_at dksJ16_getLongUnaligned_1 4 rfl rfl)
theorem dJ16_getLongUnaligned_29 : decode cJ16_getLongUnaligned 29 = .ok (.lload_n 2, 1) := dk_32 (dk_at dksJ16_getLongUnaligned_1 5 rfl rfl)
theorem dJ16_getLongUnaligned_30 : decode cJ16_getLongUnaligned 30 = .ok (.invokevirtual 17, 3) := dk_182 0 17 (dk_at dksJ16_getLongUnaligned_1 6 rfl rfl)
theorem dJ16_getLongUnaligned_33 : decode cJ16_getLongUnaligned 33 = .ok (.aload_n 0, 1) := dk_42 (dk_at dksJ16_getLongUnaligned_1 9 rfl rfl)
theorem dJ16_getLongUnaligned_34 : decode cJ16_getLongUnaligned 34 = .ok (.aload_n 1, 1) := dk_43 (dk_at dksJ16_getLongUnaligned_1 10 rfl rfl)
theorem dJ16_getLongUnaligned_35 : decode cJ16_getLongUnaligned 35 = .ok (.lload_n 2, 1) := dk_32 (dk_at dksJ16_getLongUnaligned_1 11 rfl rfl)
theorem dJ16_getLongUnaligned_36 : decode cJ16_getLongUnaligned 36 = .ok (.ldc2_w 205, 3) := dk_20 0 205 (dk_at dksJ16_getLongUnaligned_1 12 rfl rfl)
theorem dJ16_getLongUnaligned_39 : decode cJ16_getLongUnaligned 39 = .ok (.ladd, 1) := dk_97 (dk_at dksJ16_getLongUnaligned_1 15 rfl rfl)
theorem dJ16_getLongUnaligned_40 : decode cJ16_getLongUnaligned 40 = .ok (.invokevirtual 17, 3) := dk_182 0 17 (dk_at dksJ16_getLongUnaligned_1 16 rfl rfl)
theorem dJ16_getLongUnaligned_43 : decode cJ16_getLongUnaligned 43 = .ok (.invokestatic 698, 3) := dk_184 2 186 (dk_at dksJ16_getLongUnaligned_1 19 rfl rfl)
theorem dJ16_getLongUnaligned_46 : decode cJ16_getLongUnaligned 46 = .ok (.lreturn, 1) := dk_173 (dk_at dksJ16_getLongUnaligned_1 22 rfl rfl)
theorem dJ16_getLongUnaligned_47 : decode cJ16_getLongUnaligned 47 = .ok (.lload_n 2, 1) := dk_32 (dk_at dksJ16_getLongUnaligned_1 23 rfl rfl)
theorem dJ16_getLongUnaligned_48 : decode cJ16_getLongUnaligned 48 = .ok (.lconst 1, 1) := dk_10 (dk_at dksJ16_getLongUnaligned_2 0 rfl rfl)
theorem dJ16_getLongUnaligned_49 : decode cJ16_getLongUnaligned 49 = .ok (.land, 1) := dk_127 (dk_at dksJ16_getLongUnaligned_2 1 rfl rfl)
theorem dJ16_getLongUnaligned_50 : decode cJ16_getLongUnaligned 50 = .ok (.lconst 0, 1) := dk_9 (dk_at dksJ16_getLongUnaligned_2 2 rfl rfl)
theorem dJ16_getLongUnaligned_51 : decode cJ16_getLongUnaligned 51 = .ok (.lcmp, 1) := dk_148 (dk_at dksJ16_getLongUnaligned_2 3 rfl rfl)
theorem dJ16_getLongUnaligned_52 : decode cJ16_getLongUnaligned 52 = .ok (.ifCond .ne 43, 3) := dk_154 0 43 (dk_at dksJ16_getLongUnaligned_2 4 rfl rfl)
theorem dJ16_getLongUnaligned_55 : decode cJ16_getLongUnaligned 55 = .ok (.aload_n 0, 1) := dk_42 (dk_at dksJ16_getLongUnaligned_2 7 rfl rfl)
theorem dJ16_getLongUnaligned_56 : decode cJ16_getLongUnaligned 56 = .ok (.aload_n 1, 1) := dk_43 (dk_at dksJ16_getLongUnaligned_2 8 rfl rfl)
theorem dJ16_getLongUnaligned_57 : decode cJ16_getLongUnaligned 57 = .ok (.lload_n 2, 1) := dk_32 (dk_at dksJ16_getLongUnaligned_2 9 rfl rfl)
theorem dJ16_getLongUnaligned_58 : decode cJ16_getLongUnaligned 58 = .ok (.invokevirtual 47, 3) := dk_182 0 47 (dk_at dksJ16_getLongUnaligned_2 10 rfl rfl)
theorem dJ16_getLongUnaligned_61 : decode cJ16_getLongUnaligned 61 = .ok (.aload_n 0, 1) := dk_42 (dk_at dksJ16_getLongUnaligned_2 13 rfl rfl)
theorem dJ16_getLongUnaligned_62 : decode cJ16_getLongUnaligned 62 = .ok (.aload_n 1, 1) := dk_43 (dk_at dksJ16_getLongUnaligned_2 14 rfl rfl)
theorem dJ16_getLongUnaligned_63 : decode cJ16_getLongUnaligned 63 = .ok (.lload_n 2, 1) := dk_32 (dk_at dksJ16_getLongUnaligned_2 15 rfl rfl)
theorem dJ16_getLongUnaligned_64 : decode cJ16_getLongUnaligned 64 = .ok (.ldc2_w 203, 3) := dk_20 0 203 (dk_at dksJ16_getLongUnaligned_2 16 rfl rfl)
theorem dJ16_getLongUnaligned_67 : decode cJ16_getLongUnaligned 67 = .ok (.ladd, 1) := dk_97 (dk_at dksJ16_getLongUnaligned_2 19 rfl rfl)
theorem dJ16_getLongUnaligned_68 : decode cJ16_getLongUnaligned 68 = .ok (.invokevirtual 47, 3) := dk_182 0 47 (dk_at dksJ16_getLongUnaligned_2 20 rfl rfl)
theorem dJ16_getLongUnaligned_71 : decode cJ16_getLongUnaligned 71 = .ok (.aload_n 0, 1) := dk_42 (dk_at dksJ16_getLongUnaligned_2 23 rfl rfl)
theorem dJ16_getLongUnaligned_72 : decode cJ16_getLongUnaligned 72 = .ok (.aload_n 1, 1) := dk_43 (dk_at dksJ16_getLongUnaligned_3 0 rfl rfl)
theorem dJ16_getLongUnaligned_73 : decode cJ16_getLongUnaligned 73 = .ok (.lload_n 2, 1) := dk_32 (dk_at dksJ16_getLongUnaligned_3 1 rfl rfl)
theorem dJ16_getLongUnaligned_74 : decode cJ16_getLongUnaligned 74 = .ok (.ldc2_w 205, 3) := dk_20 0 205 (dk_at dksJ16_getLongUnaligned_3 2 rfl rfl)
theorem dJ16_getLongUnaligned_77 : decode cJ16_getLongUnaligned 77 = .ok (.ladd, 1) := dk_97 (dk_at dksJ16_getLongUnaligned_3 5 rfl rfl)
theorem dJ16_getLongUnaligned_78 : decode cJ16_getLongUnaligned 78 = .ok (.invokevirtual 47, 3) := dk_182 0 47 (dk_at dksJ16_getLongUnaligned_3 6 rfl rfl)
theorem dJ16_getLongUnaligned_81 : decode cJ16_getLongUnaligned 81 = .ok (.aload_n 0, 1) := dk_42 (dk_at dksJ16_getLongUnaligned_3 9 rfl rfl)
theorem dJ16_getLongUnaligned_82 : decode cJ16_getLongUnaligned 82 = .ok (.aload_n 1, 1) := dk_43 (dk_at dksJ16_getLongUnaligned_3 10 rfl rfl)
theorem dJ16_getLongUnaligned_83 : decode cJ16_getLongUnaligned 83 = .ok (.lload_n 2, 1) := dk_32 (dk_at dksJ16_getLongUnaligned_3 11 rfl rfl)
theorem dJ16_getLongUnaligned_84 : decode cJ16_getLongUnaligned 84 = .ok (.ldc2_w 702, 3) := dk_20 2 190 (dk_at dksJ16_getLongUnaligned_3 12 rfl rfl)
theorem dJ16_getLongUnaligned_87 : decode cJ16_getLongUnaligned 87 = .ok (.ladd, 1) := dk_97 (dk_at dksJ16_getLongUnaligned_3 15 rfl rfl)
theorem dJ16_getLongUnaligned_88 : decode cJ16_getLongUnaligned 88 = .ok (.invokevirtual 47, 3) := dk_182 0 47 (dk_at dksJ16_getLongUnaligned_3 16 rfl rfl)
theorem dJ16_getLongUnaligned_91 : decode cJ16_getLongUnaligned 91 = .ok (.invokestatic 704, 3) := dk_184 2 192 (dk_at dksJ16_getLongUnaligned_3 19 rfl rfl)
theorem dJ16_getLongUnaligned_94 : decode cJ16_getLongUnaligned 94 = .ok (.lreturn, 1) := dk_173 (dk_at dksJ16_getLongUnaligned_3 22 rfl rfl)
theorem dJ16_getLongUnaligned_95 : decode cJ16_getLongUnaligned 95 = .ok (.aload_n 0, 1) := dk_42 (dk_at dksJ16_getLongUnaligned_3 23 rfl rfl)
theorem dJ16_getLongUnaligned_96 : decode cJ16_getLongUnaligned 96 = .ok (.aload_n 1, 1) := dk_43 (dk_at dksJ16_getLongUnaligned_4 0 rfl rfl)
theorem dJ16_getLongUnaligned_97 : decode cJ16_getLongUnaligned 97 = .ok (.lload_n 2, 1) := dk_32 (dk_at dksJ16_getLongUnaligned_4 1 rfl rfl)
theorem dJ16_getLongUnaligned_98 : decode cJ16_getLongUnaligned 98 = .ok (.invokevirtual 39, 3) := dk_182 0 39 (dk_at dksJ16_getLongUnaligned_4 2 rfl rfl)
theorem dJ16_getLongUnaligned_101 : decode cJ16_getLongUnaligned 101 = .ok (.aload_n 0, 1) := dk_42 (dk_at dksJ16_getLongUnaligned_4 5 rfl rfl)
theorem dJ16_getLongUnaligned_102 : decode cJ16_getLongUnaligned 102 = .ok (.aload_n 1, 1) := dk_43 (dk_at dksJ16_getLongUnaligned_4 6 rfl rfl)
theorem dJ16_getLongUnaligned_103 : decode cJ16_getLongUnaligned 103 = .ok (.lload_n 2, 1) := dk_32 (dk_at dksJ16_getLongUnaligned_4 7 rfl rfl)
theorem dJ16_getLongUnaligned_104 : decode cJ16_getLongUnaligned 104 = .ok (.lconst 1, 1) := dk_10 (dk_at dksJ16_getLongUnaligned_4 8 rfl rfl)
theorem dJ16_getLongUnaligned_105 : decode cJ16_getLongUnaligned 105 = .ok (.ladd, 1) := dk_97 (dk_at dksJ16_getLongUnaligned_4 9 rfl rfl)
theorem dJ16_getLongUnaligned_106 : decode cJ16_getLongUnaligned 106 = .ok (.invokevirtual 39, 3) := dk_182 0 39 (dk_at dksJ16_getLongUnaligned_4 10 rfl rfl)
theorem dJ16_getLongUnaligned_109 : decode cJ16_getLongUnaligned 109 = .ok (.aload_n 0, 1) := dk_42 (dk_at dksJ16_getLongUnaligned_4 13 rfl rfl)
theorem dJ16_getLongUnaligned_110 : decode cJ16_getLongUnaligned 110 = .ok (.aload_n 1, 1) := dk_43 (dk_at dksJ16_getLongUnaligned_4 14 rfl rfl)
theorem dJ16_getLongUnaligned_111 : decode cJ16_getLongUnaligned 111 = .ok (.lload_n 2, 1) := dk_32 (dk_at dksJ16_getLongUnaligned_4 15 rfl rfl)
theorem dJ16_getLongUnaligned_112 : decode cJ16_getLongUnaligned 112 = .ok (.ldc2_w 203, 3) := dk_20 0 203 (dk_at dksJ16_getLongUnaligned_4 16 rfl rfl)
theorem dJ16_getLongUnaligned_115 : decode cJ16_getLongUnaligned 115 = .ok (.ladd, 1) := dk_97 (dk_at dksJ16_getLongUnaligned_4 19 rfl rfl)
theorem dJ16_getLongUnaligned_116 : decode cJ16_getLongUnaligned 116 = .ok (.invokevirtual 39, 3) := dk_182 0 39 (dk_at dksJ16_getLongUnaligned_4 20 rfl rfl)
theorem dJ16_getLongUnaligned_119 : decode cJ16_getLongUnaligned 119 = .ok (.aload_n 0, 1) := dk_42 (dk_at dksJ16_getLongUnaligned_4 23 rfl rfl)
theorem dJ16_getLongUnaligned_120 : decode cJ16_getLongUnaligned 120 = .ok (.aload_n 1, 1) := dk_43 (dk_at dksJ16_getLongUnaligned_5 0 rfl rfl)
theorem dJ16_getLongUnaligned_121 : decode cJ16_getLongUnaligned 121 = .ok (.lload_n 2, 1) := dk_32 (dk_at dksJ16_getLongUnaligned_5 1 rfl rfl)
theorem dJ16_getLongUnaligned_122 : decode cJ16_getLongUnaligned 122 = .ok (.ldc2_w 349, 3) := dk_20 1 93 (dk_at dksJ16_getLongUnaligned_5 2 rfl rfl)
theorem dJ16_getLongUnaligned_125 : decode cJ16_getLongUnaligned 125 = .ok (.ladd, 1) := dk_97 (dk_at dksJ16_getLongUnaligned_5 5 rfl rfl)
theorem dJ16_getLongUnaligned_126 : decode cJ16_getLongUnaligned 126 = .ok (.invokevirtual 39, 3) := dk_182 0 39 (dk_at dksJ16_getLongUnaligned_5 6 rfl rfl)
theorem dJ16_getLongUnaligned_129 : decode cJ16_getLongUnaligned 129 = .ok (.aload_n 0, 1) := dk_42 (dk_at dksJ16_getLongUnaligned_5 9 rfl rfl)
theorem dJ16_getLongUnaligned_130 : decode cJ16_getLongUnaligned 130 = .ok (.aload_n 1, 1) := dk_43 (dk_at dksJ16_getLongUnaligned_5 10 rfl rfl)
theorem dJ16_getLongUnaligned_131 : decode cJ16_getLongUnaligned 131 = .ok (.lload_n 2, 1) := dk_32 (dk_at dksJ16_getLongUnaligned_5 11 rfl rfl)
theorem dJ16_getLongUnaligned_132 : decode cJ16_getLongUnaligned 132 = .ok (.ldc2_w 205, 3) := dk_20 0 205 (dk_at dksJ16_getLongUnaligned_5 12 rfl rfl)
theorem dJ16_getLongUnaligned_135 : decode cJ16_getLongUnaligned 135 = .ok (.ladd, 1) := dk_97 (dk_at dksJ16_getLongUnaligned_5 15 rfl rfl)
theorem dJ16_getLongUnaligned_136 : decode cJ16_getLongUnaligned 136 = .ok (.invokevirtual 39, 3) := dk_182 0 39 (dk_at dksJ16_getLongUnaligned_5 16 rfl rfl)
theorem dJ16_getLongUnaligned_139 : decode cJ16_getLongUnaligned 139 = .ok (.aload_n 0, 1) := dk_42 (dk_at dksJ16_getLongUnaligned_5 19 rfl rfl)
theorem dJ16_getLongUnaligned_140 : decode cJ16_getLongUnaligned 140 = .ok (.aload_n 1, 1) := dk_43 (dk_at dksJ16_getLongUnaligned_5 20 rfl rfl)
theorem dJ16_getLongUnaligned_141 : decode cJ16_getLongUnaligned 141 = .ok (.lload_n 2, 1) := dk_32 (dk_at dksJ16_getLongUnaligned_5 21 rfl rfl)
theorem dJ16_getLongUnaligned_142 : decode cJ16_getLongUnaligned 142 = .ok (.ldc2_w 707, 3) := dk_20 2 195 (dk_at dksJ16_getLongUnaligned_6 0 rfl rfl)
theorem dJ16_getLongUnaligned_145 : decode cJ16_getLongUnaligned 145 = .ok (.ladd, 1) := dk_97 (dk_at dksJ16_getLongUnaligned_6 3 rfl rfl)
theorem dJ16_getLongUnaligned_146 : decode cJ16_getLongUnaligned 146 = .ok (.invokevirtual 39, 3) := dk_182 0 39 (dk_at dksJ16_getLongUnaligned_6 4 rfl rfl)
theorem dJ16_getLongUnaligned_149 : decode cJ16_getLongUnaligned 149 = .ok (.aload_n 0, 1) := dk_42 (dk_at dksJ16_getLongUnaligned_6 7 rfl rfl)
theorem dJ16_getLongUnaligned_150 : decode cJ16_getLongUnaligned 150 = .ok (.aload_n 1, 1) := dk_43 (dk_at dksJ16_getLongUnaligned_6 8 rfl rfl)
theorem dJ16_getLongUnaligned_151 : decode cJ16_getLongUnaligned 151 = .ok (.lload_n 2, 1) := dk_32 (dk_at dksJ16_getLongUnaligned_6 9 rfl rfl)
theorem dJ16_getLongUnaligned_152 : decode cJ16_getLongUnaligned 152 = .ok (.ldc2_w 702, 3) := dk_20 2 190 (dk_at dksJ16_getLongUnaligned_6 10 rfl rfl)
theorem dJ16_getLongUnaligned_155 : decode cJ16_getLongUnaligned 155 = .ok (.ladd, 1) := dk_97 (dk_at dksJ16_getLongUnaligned_6 13 rfl rfl)
theorem dJ16_getLongUnaligned_156 : decode cJ16_getLongUnaligned 156 = .ok (.invokevirtual 39, 3) := dk_182 0 39 (dk_at dksJ16_getLongUnaligned_6 14 rfl rfl)
theorem dJ16_getLongUnaligned_159 : decode cJ16_getLongUnaligned 159 = .ok (.aload_n 0, 1) := dk_42 (dk_at dksJ16_getLongUnaligned_6 17 rfl rfl)
theorem dJ16_getLongUnaligned_160 : decode cJ16_getLongUnaligned 160 = .ok (.aload_n 1, 1) := dk_43 (dk_at dksJ16_getLongUnaligned_6 18 rfl rfl)
theorem dJ16_getLongUnaligned_161 : decode cJ16_getLongUnaligned 161 = .ok (.lload_n 2, 1) := dk_32 (dk_at dksJ16_getLongUnaligned_6 19 rfl rfl)
theorem dJ16_getLongUnaligned_162 : decode cJ16_getLongUnaligned 162 = .ok (.ldc2_w 696, 3) := dk_20 2 184 (dk_at dksJ16_getLongUnaligned_6 20 rfl rfl)
theorem dJ16_getLongUnaligned_165 : decode cJ16_getLongUnaligned 165 = .ok (.ladd, 1) := dk_97 (dk_at dksJ16_getLongUnaligned_6 23 rfl rfl)
theorem dJ16_getLongUnaligned_166 : decode cJ16_getLongUnaligned 166 = .ok (.invokevirtual 39, 3) := dk_182 0 39 (dk_at dksJ16_getLongUnaligned_7 0 rfl rfl)
theorem dJ16_getLongUnaligned_169 : decode cJ16_getLongUnaligned 169 = .ok (.invokestatic 709, 3) := dk_184 2 197 (dk_at dksJ16_getLongUnaligned_7 3 rfl rfl)
theorem dJ16_getLongUnaligned_172 : decode cJ16_getLongUnaligned 172 = .ok (.lreturn, 1) := dk_173 (dk_at dksJ16_getLongUnaligned_7 6 rfl rfl)
abbrev cJ16_makeLong : ByteArray := prog_59_method_353_code
def yJ16_makeLong : MethodName := ⟨RJ16, "makeLong", "(II)J"⟩
def dkwJ16_makeLong_1 : List UInt8 := [173]
abbrev dktJ16_makeLong_1 : List UInt8 := dkwJ16_makeLong_1 ++ []
def dkwJ16_makeLong_0 : List UInt8 := [26, 184, 3, 23, 16, 32, 3, 184, 3, 16, 121, 27, 184, 3, 23, 16, 32, 16, 32, 184, 3, 16, 121, 129]
abbrev dktJ16_makeLong_0 : List UInt8 := dkwJ16_makeLong_0 ++ dktJ16_makeLong_1
theorem dksJ16_makeLong_0 : cJ16_makeLong.data.toList.drop 0 = dktJ16_makeLong_0 := by decide +kernel
theorem dksJ16_makeLong_1 : cJ16_makeLong.data.toList.drop 24 = dktJ16_makeLong_1 := dk_seg dksJ16_makeLong_0 24 rfl rfl
theorem dJ16_makeLong_0 : decode cJ16_makeLong 0 = .ok (.iload_n 0, 1) := dk_26 (dk_at dksJ16_makeLong_0 0 rfl rfl)
theorem dJ16_makeLong_1 : decode cJ16_makeLong 1 = .ok (.invokestatic 791, 3) := dk_184 3 23 (dk_at dksJ16_makeLong_0 1 rfl rfl)
theorem dJ16_makeLong_4 : decode cJ16_makeLong 4 = .ok (.bipush 32, 2) := dk_16 32 (dk_at dksJ16_makeLong_0 4 rfl rfl)
theorem dJ16_makeLong_6 : decode cJ16_makeLong 6 = .ok (.iconst 0, 1) := dk_3 (dk_at dksJ16_makeLong_0 6 rfl rfl)
theorem dJ16_makeLong_7 : decode cJ16_makeLong 7 = .ok (.invokestatic 784, 3) := dk_184 3 16 (dk_at dksJ16_makeLong_0 7 rfl rfl)
theorem dJ16_makeLong_10 : decode cJ16_makeLong 10 = .ok (.lshl, 1) := dk_121 (dk_at dksJ16_makeLong_0 10 rfl rfl)
theorem dJ16_makeLong_11 : decode cJ16_makeLong 11 = .ok (.iload_n 1, 1) := dk_27 (dk_at dksJ16_makeLong_0 11 rfl rfl)
theorem dJ16_makeLong_12 : decode cJ16_makeLong 12 = .ok (.invokestatic 791, 3) := dk_184 3 23 (dk_at dksJ16_makeLong_0 12 rfl rfl)
theorem dJ16_makeLong_15 : decode cJ16_makeLong 15 = .ok (.bipush 32, 2) := dk_16 32 (dk_at dksJ16_makeLong_0 15 rfl rfl)
theorem dJ16_makeLong_17 : decode cJ16_makeLong 17 = .ok (.bipush 32, 2) := dk_16 32 (dk_at dksJ16_makeLong_0 17 rfl rfl)
theorem dJ16_makeLong_19 : decode cJ16_makeLong 19 = .ok (.invokestatic 784, 3) := dk_184 3 16 (dk_at dksJ16_makeLong_0 19 rfl rfl)
theorem dJ16_makeLong_22 : decode cJ16_makeLong 22 = .ok (.lshl, 1) := dk_121 (dk_at dksJ16_makeLong_0 22 rfl rfl)
theorem dJ16_makeLong_23 : decode cJ16_makeLong 23 = .ok (.lor, 1) := dk_129 (dk_at dksJ16_makeLong_0 23 rfl rfl)
theorem dJ16_makeLong_24 : decode cJ16_makeLong 24 = .ok (.lreturn, 1) := dk_173 (dk_at dksJ16_makeLong_1 0 rfl rfl)
abbrev cJ16_toUnsignedLong : ByteArray := prog_59_method_370_code
def yJ16_toUnsignedLong : MethodName := ⟨RJ16, "toUnsignedLong", "(I)J"⟩
def dkwJ16_toUnsignedLong_0 : List UInt8 := [26, 133, 20, 3, 44, 127, 173]
abbrev dktJ16_toUnsignedLong_0 : List UInt8 := dkwJ16_toUnsignedLong_0 ++ []
theorem dksJ16_toUnsignedLong_0 : cJ16_toUnsignedLong.data.toList.drop 0 = dktJ16_toUnsignedLong_0 := by decide +kernel
theorem dJ16_toUnsignedLong_0 : decode cJ16_toUnsignedLong 0 = .ok (.iload_n 0, 1) := dk_26 (dk_at dksJ16_toUnsignedLong_0 0 rfl rfl)
theorem dJ16_toUnsignedLong_1 : decode cJ16_toUnsignedLong 1 = .ok (.i2l, 1) := dk_133 (dk_at dksJ16_toUnsignedLong_0 1 rfl rfl)
theorem dJ16_toUnsignedLong_2 : decode cJ16_toUnsignedLong 2 = .ok (.ldc2_w 812, 3) := dk_20 3 44 (dk_at dksJ16_toUnsignedLong_0 2 rfl rfl)
theorem dJ16_toUnsignedLong_5 : decode cJ16_toUnsignedLong 5 = .ok (.land, 1) := dk_127 (dk_at dksJ16_toUnsignedLong_0 5 rfl rfl)
theorem dJ16_toUnsignedLong_6 : decode cJ16_toUnsignedLong 6 = .ok (.lreturn, 1) := dk_173 (dk_at dksJ16_toUnsignedLong_0 6 rfl rfl)
abbrev cJ16_pickPos : ByteArray := prog_59_method_350_code
def yJ16_pickPos : MethodName := ⟨RJ16, "pickPos", "(II)I"⟩
def dkwJ16_pickPos_0 : List UInt8 := [178, 1, 95, 153, 0, 9, 26, 27, 100, 167, 0, 4, 27, 172]
abbrev dktJ16_pickPos_0 : List UInt8 := dkwJ16_pickPos_0 ++ []
theorem dksJ16_pickPos_0 : cJ16_pickPos.data.toList.drop 0 = dktJ16_pickPos_0 := by decide +kernel
theorem dJ16_pickPos_0 : decode cJ16_pickPos 0 = .ok (.getstatic 351, 3) := dk_178 1 95 (dk_at dksJ16_pickPos_0 0 rfl rfl)
theorem dJ16_pickPos_3 : decode cJ16_pickPos 3 = .ok (.ifCond .eq 9, 3) := dk_153 0 9 (dk_at dksJ16_pickPos_0 3 rfl rfl)
theorem dJ16_pickPos_6 : decode cJ16_pickPos 6 = .ok (.iload_n 0, 1) := dk_26 (dk_at dksJ16_pickPos_0 6 rfl rfl)
theorem dJ16_pickPos_7 : decode cJ16_pickPos 7 = .ok (.iload_n 1, 1) := dk_27 (dk_at dksJ16_pickPos_0 7 rfl rfl)
theorem dJ16_pickPos_8 : decode cJ16_pickPos 8 = .ok (.isub, 1) := dk_100 (dk_at dksJ16_pickPos_0 8 rfl rfl)
theorem dJ16_pickPos_9 : decode cJ16_pickPos 9 = .ok (.goto 4, 3) := dk_167 0 4 (dk_at dksJ16_pickPos_0 9 rfl rfl)
theorem dJ16_pickPos_12 : decode cJ16_pickPos 12 = .ok (.iload_n 1, 1) := dk_27 (dk_at dksJ16_pickPos_0 12 rfl rfl)
theorem dJ16_pickPos_13 : decode cJ16_pickPos 13 = .ok (.ireturn, 1) := dk_172 (dk_at dksJ16_pickPos_0 13 rfl rfl)
abbrev cJ16_makeLong_2 : ByteArray := prog_59_method_352_code
def yJ16_makeLong_2 : MethodName := ⟨RJ16, "makeLong", "(SSSS)J"⟩
def dkwJ16_makeLong_2_2 : List UInt8 := [121, 129, 173]
abbrev dktJ16_makeLong_2_2 : List UInt8 := dkwJ16_makeLong_2_2 ++ []
def dkwJ16_makeLong_2_1 : List UInt8 := [28, 184, 3, 20, 16, 48, 16, 32, 184, 3, 16, 121, 129, 29, 184, 3, 20, 16, 48, 16, 48, 184, 3, 16]
abbrev dktJ16_makeLong_2_1 : List UInt8 := dkwJ16_makeLong_2_1 ++ dktJ16_makeLong_2_2
def dkwJ16_makeLong_2_0 : List UInt8 := [26, 184, 3, 20, 16, 48, 3, 184, 3, 16, 121, 27, 184, 3, 20, 16, 48, 16, 16, 184, 3, 16, 121, 129]
abbrev dktJ16_makeLong_2_0 : List UInt8 := dkwJ16_makeLong_2_0 ++ dktJ16_makeLong_2_1
theorem dksJ16_makeLong_2_0 : cJ16_makeLong_2.data.toList.drop 0 = dktJ16_makeLong_2_0 := by decide +kernel
theorem dksJ16_makeLong_2_1 : cJ16_makeLong_2.data.toList.drop 24 = dktJ16_makeLong_2_1 := dk_seg dksJ16_makeLong_2_0 24 rfl rfl
theorem dksJ16_makeLong_2_2 : cJ16_makeLong_2.data.toList.drop 48 = dktJ16_makeLong_2_2 := dk_seg dksJ16_makeLong_2_1 24 rfl rfl
theorem dJ16_makeLong_2_0 : decode cJ16_makeLong_2 0 = .ok (.iload_n 0, 1) := dk_26 (dk_at dksJ16_makeLong_2_0 0 rfl rfl)
theorem dJ16_makeLong_2_1 : decode cJ16_makeLong_2 1 = .ok (.invokestatic 788, 3) := dk_184 3 20 (dk_at dksJ16_makeLong_2_0 1 rfl rfl)
theorem dJ16_makeLong_2_4 : decode cJ16_makeLong_2 4 = .ok (.bipush 48, 2) := dk_16 48 (dk_at dksJ16_makeLong_2_0 4 rfl rfl)
theorem dJ16_makeLong_2_6 : decode cJ16_makeLong_2 6 = .ok (.iconst 0, 1) := dk_3 (dk_at dksJ16_makeLong_2_0 6 rfl rfl)
theorem dJ16_makeLong_2_7 : decode cJ16_makeLong_2 7 = .ok (.invokestatic 784, 3) := dk_184 3 16 (dk_at dksJ16_makeLong_2_0 7 rfl rfl)
theorem dJ16_makeLong_2_10 : decode cJ16_makeLong_2 10 = .ok (.lshl, 1) := dk_121 (dk_at dksJ16_makeLong_2_0 10 rfl rfl)
theorem dJ16_makeLong_2_11 : decode cJ16_makeLong_2 11 = .ok (.iload_n 1, 1) := dk_27 (dk_at dksJ16_makeLong_2_0 11 rfl rfl)
theorem dJ16_makeLong_2_12 : decode cJ16_makeLong_2 12 = .ok (.invokestatic 788, 3) := dk_184 3 20 (dk_at dksJ16_makeLong_2_0 12 rfl rfl)
theorem dJ16_makeLong_2_15 : decode cJ16_makeLong_2 15 = .ok (.bipush 48, 2) := dk_16 48 (dk_at dksJ16_makeLong_2_0 15 rfl rfl)
theorem dJ16_makeLong_2_17 : decode cJ16_makeLong_2 17 = .ok (.bipush 16, 2) := dk_16 16 (dk_at dksJ16_makeLong_2_0 17 rfl rfl)
theorem dJ16_makeLong_2_19 : decode cJ16_makeLong_2 19 = .ok (.invokestatic 784, 3) := dk_184 3 16 (dk_at dksJ16_makeLong_2_0 19 rfl rfl)
theorem dJ16_makeLong_2_22 : decode cJ16_makeLong_2 22 = .ok (.lshl, 1) := dk_121 (dk_at dksJ16_makeLong_2_0 22 rfl rfl)
theorem dJ16_makeLong_2_23 : decode cJ16_makeLong_2 23 = .ok (.lor, 1) := dk_129 (dk_at dksJ16_makeLong_2_0 23 rfl rfl)
theorem dJ16_makeLong_2_24 : decode cJ16_makeLong_2 24 = .ok (.iload_n 2, 1) := dk_28 (dk_at dksJ16_makeLong_2_1 0 rfl rfl)
theorem dJ16_makeLong_2_25 : decode cJ16_makeLong_2 25 = .ok (.invokestatic 788, 3) := dk_184 3 20 (dk_at dksJ16_makeLong_2_1 1 rfl rfl)
theorem dJ16_makeLong_2_28 : decode cJ16_makeLong_2 28 = .ok (.bipush 48, 2) := dk_16 48 (dk_at dksJ16_makeLong_2_1 4 rfl rfl)
theorem dJ16_makeLong_2_30 : decode cJ16_makeLong_2 30 = .ok (.bipush 32, 2) := dk_16 32 (dk_at dksJ16_makeLong_2_1 6 rfl rfl)
theorem dJ16_makeLong_2_32 : decode cJ16_makeLong_2 32 = .ok (.invokestatic 784, 3) := dk_184 3 16 (dk_at dksJ16_makeLong_2_1 8 rfl rfl)
theorem dJ16_makeLong_2_35 : decode cJ16_makeLong_2 35 = .ok (.lshl, 1) := dk_121 (dk_at dksJ16_makeLong_2_1 11 rfl rfl)
theorem dJ16_makeLong_2_36 : decode cJ16_makeLong_2 36 = .ok (.lor, 1) := dk_129 (dk_at dksJ16_makeLong_2_1 12 rfl rfl)
theorem dJ16_makeLong_2_37 : decode cJ16_makeLong_2 37 = .ok (.iload_n 3, 1) := dk_29 (dk_at dksJ16_makeLong_2_1 13 rfl rfl)
theorem dJ16_makeLong_2_38 : decode cJ16_makeLong_2 38 = .ok (.invokestatic 788, 3) := dk_184 3 20 (dk_at dksJ16_makeLong_2_1 14 rfl rfl)
theorem dJ16_makeLong_2_41 : decode cJ16_makeLong_2 41 = .ok (.bipush 48, 2) := dk_16 48 (dk_at dksJ16_makeLong_2_1 17 rfl rfl)
theorem dJ16_makeLong_2_43 : decode cJ16_makeLong_2 43 = .ok (.bipush 48, 2) := dk_16 48 (dk_at dksJ16_makeLong_2_1 19 rfl rfl)
theorem dJ16_makeLong_2_45 : decode cJ16_makeLong_2 45 = .ok (.invokestatic 784, 3) := dk_184 3 16 (dk_at dksJ16_makeLong_2_1 21 rfl rfl)
theorem dJ16_makeLong_2_48 : decode cJ16_makeLong_2 48 = .ok (.lshl, 1) := dk_121 (dk_at dksJ16_makeLong_2_2 0 rfl rfl)
theorem dJ16_makeLong_2_49 : decode cJ16_makeLong_2 49 = .ok (.lor, 1) := dk_129 (dk_at dksJ16_makeLong_2_2 1 rfl rfl)
theorem dJ16_makeLong_2_50 : decode cJ16_makeLong_2 50 = .ok (.lreturn, 1) := dk_173 (dk_at dksJ16_makeLong_2_2 2 rfl rfl)
abbrev cJ16_toUnsignedLong_2 : ByteArray := prog_59_method_369_code
def yJ16_toUnsignedLong_2 : MethodName := ⟨RJ16, "toUnsignedLong", "(S)J"⟩
def dkwJ16_toUnsignedLong_2_0 : List UInt8 := [26, 133, 20, 3, 42, 127, 173]
abbrev dktJ16_toUnsignedLong_2_0 : List UInt8 := dkwJ16_toUnsignedLong_2_0 ++ []
theorem dksJ16_toUnsignedLong_2_0 : cJ16_toUnsignedLong_2.data.toList.drop 0 = dktJ16_toUnsignedLong_2_0 := by decide +kernel
theorem dJ16_toUnsignedLong_2_0 : decode cJ16_toUnsignedLong_2 0 = .ok (.iload_n 0, 1) := dk_26 (dk_at dksJ16_toUnsignedLong_2_0 0 rfl rfl)
theorem dJ16_toUnsignedLong_2_1 : decode cJ16_toUnsignedLong_2 1 = .ok (.i2l, 1) := dk_133 (dk_at dksJ16_toUnsignedLong_2_0 1 rfl rfl)
theorem dJ16_toUnsignedLong_2_2 : decode cJ16_toUnsignedLong_2 2 = .ok (.ldc2_w 810, 3) := dk_20 3 42 (dk_at dksJ16_toUnsignedLong_2_0 2 rfl rfl)
theorem dJ16_toUnsignedLong_2_5 : decode cJ16_toUnsignedLong_2 5 = .ok (.land, 1) := dk_127 (dk_at dksJ16_toUnsignedLong_2_0 5 rfl rfl)
theorem dJ16_toUnsignedLong_2_6 : decode cJ16_toUnsignedLong_2 6 = .ok (.lreturn, 1) := dk_173 (dk_at dksJ16_toUnsignedLong_2_0 6 rfl rfl)
abbrev cJ16_makeLong_3 : ByteArray := prog_59_method_351_code
def yJ16_makeLong_3 : MethodName := ⟨RJ16, "makeLong", "(BBBBBBBB)J"⟩
def dkwJ16_makeLong_3_4 : List UInt8 := [184, 3, 13, 16, 56, 16, 56, 184, 3, 16, 121, 129, 173]
abbrev dktJ16_makeLong_3_4 : List UInt8 := dkwJ16_makeLong_3_4 ++ []
def dkwJ16_makeLong_3_3 : List UInt8 := [16, 40, 184, 3, 16, 121, 129, 21, 6, 184, 3, 13, 16, 56, 16, 48, 184, 3, 16, 121, 129, 21, 7]
abbrev dktJ16_makeLong_3_3 : List UInt8 := dkwJ16_makeLong_3_3 ++ dktJ16_makeLong_3_4
def dkwJ16_makeLong_3_2 : List UInt8 := [121, 129, 21, 4, 184, 3, 13, 16, 56, 16, 32, 184, 3, 16, 121, 129, 21, 5, 184, 3, 13, 16, 56]
abbrev dktJ16_makeLong_3_2 : List UInt8 := dkwJ16_makeLong_3_2 ++ dktJ16_makeLong_3_3
def dkwJ16_makeLong_3_1 : List UInt8 := [28, 184, 3, 13, 16, 56, 16, 16, 184, 3, 16, 121, 129, 29, 184, 3, 13, 16, 56, 16, 24, 184, 3, 16]
abbrev dktJ16_makeLong_3_1 : List UInt8 := dkwJ16_makeLong_3_1 ++ dktJ16_makeLong_3_2
def dkwJ16_makeLong_3_0 : List UInt8 := [26, 184, 3, 13, 16, 56, 3, 184, 3, 16, 121, 27, 184, 3, 13, 16, 56, 16, 8, 184, 3, 16, 121, 129]
abbrev dktJ16_makeLong_3_0 : List UInt8 := dkwJ16_makeLong_3_0 ++ dktJ16_makeLong_3_1
theorem dksJ16_makeLong_3_0 : cJ16_makeLong_3.data.toList.drop 0 = dktJ16_makeLong_3_0 := by decide +kernel
theorem dksJ16_makeLong_3_1 : cJ16_makeLong_3.data.toList.drop 24 = dktJ16_makeLong_3_1 := dk_seg dksJ16_makeLong_3_0 24 rfl rfl
theorem dksJ16_makeLong_3_2 : cJ16_makeLong_3.data.toList.drop 48 = dktJ16_makeLong_3_2 := dk_seg dksJ16_makeLong_3_1 24 rfl rfl
theorem dksJ16_makeLong_3_3 : cJ16_makeLong_3.data.toList.drop 71 = dktJ16_makeLong_3_3 := dk_seg dksJ16_makeLong_3_2 23 rfl rfl
theorem dksJ16_makeLong_3_4 : cJ16_makeLong_3.data.toList.drop 94 = dktJ16_makeLong_3_4 := dk_seg dksJ16_makeLong_3_3 23 rfl rfl
theorem dJ16_makeLong_3_0 : decode cJ16_makeLong_3 0 = .ok (.iload_n 0, 1) := dk_26 (dk_at dksJ16_makeLong_3_0 0 rfl rfl)
theorem dJ16_makeLong_3_1 : decode cJ16_makeLong_3 1 = .ok (.invokestatic 781, 3) := dk_184 3 13 (dk_at dksJ16_makeLong_3_0 1 rfl rfl)
theorem dJ16_makeLong_3_4 : decode cJ16_makeLong_3 4 = .ok (.bipush 56, 2) := dk_16 56 (dk_at dksJ16_makeLong_3_0 4 rfl rfl)
theorem dJ16_makeLong_3_6 : decode cJ16_makeLong_3 6 = .ok (.iconst 0, 1) := dk_3 (dk_at dksJ16_makeLong_3_0 6 rfl rfl)
theorem dJ16_makeLong_3_7 : decode cJ16_makeLong_3 7 = .ok (.invokestatic 784, 3) := dk_184 3 16 (dk_at dksJ16_makeLong_3_0 7 rfl rfl)
theorem dJ16_makeLong_3_10 : decode cJ16_makeLong_3 10 = .ok (.lshl, 1) := dk_121 (dk_at dksJ16_makeLong_3_0 10 rfl rfl)
theorem dJ16_makeLong_3_11 : decode cJ16_makeLong_3 11 = .ok (.iload_n 1, 1) := dk_27 (dk_at dksJ16_makeLong_3_0 11 rfl rfl)
theorem dJ16_makeLong_3_12 : decode cJ16_makeLong_3 12 = .ok (.invokestatic 781, 3) := dk_184 3 13 (dk_at dksJ16_makeLong_3_0 12 rfl rfl)
theorem dJ16_makeLong_3_15 : decode cJ16_makeLong_3 15 = .ok (.bipush 56, 2) := dk_16 56 (dk_at dksJ16_makeLong_3_0 15 rfl rfl)
theorem dJ16_makeLong_3_17 : decode cJ16_makeLong_3 17 = .ok (.bipush 8, 2) := dk_16 8 (dk_at dksJ16_makeLong_3_0 17 rfl rfl)
theorem dJ16_makeLong_3_19 : decode cJ16_makeLong_3 19 = .ok (.invokestatic 784, 3) := dk_184 3 16 (dk_at dksJ16_makeLong_3_0 19 rfl rfl)
theorem dJ16_makeLong_3_22 : decode cJ16_makeLong_3 22 = .ok (.lshl, 1) := dk_121 (dk_at dksJ16_makeLong_3_0 22 rfl rfl)
theorem dJ16_makeLong_3_23 : decode cJ16_makeLong_3 23 = .ok (.lor, 1) := dk_129 (dk_at dksJ16_makeLong_3_0 23 rfl rfl)
theorem dJ16_makeLong_3_24 : decode cJ16_makeLong_3 24 = .ok (.iload_n 2, 1) := dk_28 (dk_at dksJ16_makeLong_3_1 0 rfl rfl)
theorem dJ16_makeLong_3_25 : decode cJ16_makeLong_3 25 = .ok (.invokestatic 781, 3) := dk_184 3 13 (dk_at dksJ16_makeLong_3_1 1 rfl rfl)
theorem dJ16_makeLong_3_28 : decode cJ16_makeLong_3 28 = .ok (.bipush 56, 2) := dk_16 56 (dk_at dksJ16_makeLong_3_1 4 rfl rfl)
theorem dJ16_makeLong_3_30 : decode cJ16_makeLong_3 30 = .ok (.bipush 16, 2) := dk_16 16 (dk_at dksJ16_makeLong_3_1 6 rfl rfl)
theorem dJ16_makeLong_3_32 : decode cJ16_makeLong_3 32 = .ok (.invokestatic 784, 3) := dk_184 3 16 (dk_at dksJ16_makeLong_3_1 8 rfl rfl)
theorem dJ16_makeLong_3_35 : decode cJ16_makeLong_3 35 = .ok (.lshl, 1) := dk_121 (dk_at dksJ16_makeLong_3_1 11 rfl rfl)
theorem dJ16_makeLong_3_36 : decode cJ16_makeLong_3 36 = .ok (.lor, 1) := dk_129 (dk_at dksJ16_makeLong_3_1 12 rfl rfl)
theorem dJ16_makeLong_3_37 : decode cJ16_makeLong_3 37 = .ok (.iload_n 3, 1) := dk_29 (dk_at dksJ16_makeLong_3_1 13 rfl rfl)
theorem dJ16_makeLong_3_38 : decode cJ16_makeLong_3 38 = .ok (.invokestatic 781, 3) := dk_184 3 13 (dk_at dksJ16_makeLong_3_1 14 rfl rfl)
theorem dJ16_makeLong_3_41 : decode cJ16_makeLong_3 41 = .ok (.bipush 56, 2) := dk_16 56 (dk_at dksJ16_makeLong_3_1 17 rfl rfl)
theorem dJ16_makeLong_3_43 : decode cJ16_makeLong_3 43 = .ok (.bipush 24, 2) := dk_16 24 (dk_at dksJ16_makeLong_3_1 19 rfl rfl)
theorem dJ16_makeLong_3_45 : decode cJ16_makeLong_3 45 = .ok (.invokestatic 784, 3) := dk_184 3 16 (dk_at dksJ16_makeLong_3_1 21 rfl rfl)
theorem dJ16_makeLong_3_48 : decode cJ16_makeLong_3 48 = .ok (.lshl, 1) := dk_121 (dk_at dksJ16_makeLong_3_2 0 rfl rfl)
theorem dJ16_makeLong_3_49 : decode cJ16_makeLong_3 49 = .ok (.lor, 1) := dk_129 (dk_at dksJ16_makeLong_3_2 1 rfl rfl)
theorem dJ16_makeLong_3_50 : decode cJ16_makeLong_3 50 = .ok (.iload 4, 2) := dk_21 4 (dk_at dksJ16_makeLong_3_2 2 rfl rfl)
theorem dJ16_makeLong_3_52 : decode cJ16_makeLong_3 52 = .ok (.invokestatic 781, 3) := dk_184 3 13 (dk_at dksJ16_makeLong_3_2 4 rfl rfl)
theorem dJ16_makeLong_3_55 : decode cJ16_makeLong_3 55 = .ok (.bipush 56, 2) := dk_16 56 (dk_at dksJ16_makeLong_3_2 7 rfl rfl)
theorem dJ16_makeLong_3_57 : decode cJ16_makeLong_3 57 = .ok (.bipush 32, 2) := dk_16 32 (dk_at dksJ16_makeLong_3_2 9 rfl rfl)
theorem dJ16_makeLong_3_59 : decode cJ16_makeLong_3 59 = .ok (.invokestatic 784, 3) := dk_184 3 16 (dk_at dksJ16_makeLong_3_2 11 rfl rfl)
theorem dJ16_makeLong_3_62 : decode cJ16_makeLong_3 62 = .ok (.lshl, 1) := dk_121 (dk_at dksJ16_makeLong_3_2 14 rfl rfl)
theorem dJ16_makeLong_3_63 : decode cJ16_makeLong_3 63 = .ok (.lor, 1) := dk_129 (dk_at dksJ16_makeLong_3_2 15 rfl rfl)
theorem dJ16_makeLong_3_64 : decode cJ16_makeLong_3 64 = .ok (.iload 5, 2) := dk_21 5 (dk_at dksJ16_makeLong_3_2 16 rfl rfl)
theorem dJ16_makeLong_3_66 : decode cJ16_makeLong_3 66 = .ok (.invokestatic 781, 3) := dk_184 3 13 (dk_at dksJ16_makeLong_3_2 18 rfl rfl)
theorem dJ16_makeLong_3_69 : decode cJ16_makeLong_3 69 = .ok (.bipush 56, 2) := dk_16 56 (dk_at dksJ16_makeLong_3_2 21 rfl rfl)
theorem dJ16_makeLong_3_71 : decode cJ16_makeLong_3 71 = .ok (.bipush 40, 2) := dk_16 40 (dk_at dksJ16_makeLong_3_3 0 rfl rfl)
theorem dJ16_makeLong_3_73 : decode cJ16_makeLong_3 73 = .ok (.invokestatic 784, 3) := dk_184 3 16 (dk_at dksJ16_makeLong_3_3 2 rfl rfl)
theorem dJ16_makeLong_3_76 : decode cJ16_makeLong_3 76 = .ok (.lshl, 1) := dk_121 (dk_at dksJ16_makeLong_3_3 5 rfl rfl)
theorem dJ16_makeLong_3_77 : decode cJ16_makeLong_3 77 = .ok (.lor, 1) := dk_129 (dk_at dksJ16_makeLong_3_3 6 rfl rfl)
theorem dJ16_makeLong_3_78 : decode cJ16_makeLong_3 78 = .ok (.iload 6, 2) := dk_21 6 (dk_at dksJ16_makeLong_3_3 7 rfl rfl)
theorem dJ16_makeLong_3_80 : decode cJ16_makeLong_3 80 = .ok (.invokestatic 781, 3) := dk_184 3 13 (dk_at dksJ16_makeLong_3_3 9 rfl rfl)
theorem dJ16_makeLong_3_83 : decode cJ16_makeLong_3 83 = .ok (.bipush 56, 2) := dk_16 56 (dk_at dksJ16_makeLong_3_3 12 rfl rfl)
theorem dJ16_makeLong_3_85 : decode cJ16_makeLong_3 85 = .ok (.bipush 48, 2) := dk_16 48 (dk_at dksJ16_makeLong_3_3 14 rfl rfl)
theorem dJ16_makeLong_3_87 : decode cJ16_makeLong_3 87 = .ok (.invokestatic 784, 3) := dk_184 3 16 (dk_at dksJ16_makeLong_3_3 16 rfl rfl)
theorem dJ16_makeLong_3_90 : decode cJ16_makeLong_3 90 = .ok (.lshl, 1) := dk_121 (dk_at dksJ16_makeLong_3_3 19 rfl rfl)
theorem dJ16_makeLong_3_91 : decode cJ16_makeLong_3 91 = .ok (.lor, 1) := dk_129 (dk_at dksJ16_makeLong_3_3 20 rfl rfl)
theorem dJ16_makeLong_3_92 : decode cJ16_makeLong_3 92 = .ok (.iload 7, 2) := dk_21 7 (dk_at dksJ16_makeLong_3_3 21 rfl rfl)
theorem dJ16_makeLong_3_94 : decode cJ16_makeLong_3 94 = .ok (.invokestatic 781, 3) := dk_184 3 13 (dk_at dksJ16_makeLong_3_4 0 rfl rfl)
theorem dJ16_makeLong_3_97 : decode cJ16_makeLong_3 97 = .ok (.bipush 56, 2) := dk_16 56 (dk_at dksJ16_makeLong_3_4 3 rfl rfl)
theorem dJ16_makeLong_3_99 : decode cJ16_makeLong_3 99 = .ok (.bipush 56, 2) := dk_16 56 (dk_at dksJ16_makeLong_3_4 5 rfl rfl)
theorem dJ16_makeLong_3_101 : decode cJ16_makeLong_3 101 = .ok (.invokestatic 784, 3) := dk_184 3 16 (dk_at dksJ16_makeLong_3_4 7 rfl rfl)
theorem dJ16_makeLong_3_104 : decode cJ16_makeLong_3 104 = .ok (.lshl, 1) := dk_121 (dk_at dksJ16_makeLong_3_4 10 rfl rfl)
theorem dJ16_makeLong_3_105 : decode cJ16_makeLong_3 105 = .ok (.lor, 1) := dk_129 (dk_at dksJ16_makeLong_3_4 11 rfl rfl)
theorem dJ16_makeLong_3_106 : decode cJ16_makeLong_3 106 = .ok (.lreturn, 1) := dk_173 (dk_at dksJ16_makeLong_3_4 12 rfl rfl)
abbrev cJ16_toUnsignedLong_3 : ByteArray := prog_59_method_368_code
def yJ16_toUnsignedLong_3 : MethodName := ⟨RJ16, "toUnsignedLong", "(B)J"⟩
def dkwJ16_toUnsignedLong_3_0 : List UInt8 := [26, 133, 20, 3, 40, 127, 173]
abbrev dktJ16_toUnsignedLong_3_0 : List UInt8 := dkwJ16_toUnsignedLong_3_0 ++ []
theorem dksJ16_toUnsignedLong_3_0 : cJ16_toUnsignedLong_3.data.toList.drop 0 = dktJ16_toUnsignedLong_3_0 := by decide +kernel
theorem dJ16_toUnsignedLong_3_0 : decode cJ16_toUnsignedLong_3 0 = .ok (.iload_n 0, 1) := dk_26 (dk_at dksJ16_toUnsignedLong_3_0 0 rfl rfl)
theorem dJ16_toUnsignedLong_3_1 : decode cJ16_toUnsignedLong_3 1 = .ok (.i2l, 1) := dk_133 (dk_at dksJ16_toUnsignedLong_3_0 1 rfl rfl)
theorem dJ16_toUnsignedLong_3_2 : decode cJ16_toUnsignedLong_3 2 = .ok (.ldc2_w 808, 3) := dk_20 3 40 (dk_at dksJ16_toUnsignedLong_3_0 2 rfl rfl)
theorem dJ16_toUnsignedLong_3_5 : decode cJ16_toUnsignedLong_3 5 = .ok (.land, 1) := dk_127 (dk_at dksJ16_toUnsignedLong_3_0 5 rfl rfl)
theorem dJ16_toUnsignedLong_3_6 : decode cJ16_toUnsignedLong_3 6 = .ok (.lreturn, 1) := dk_173 (dk_at dksJ16_toUnsignedLong_3_0 6 rfl rfl)
abbrev cJ16_getIntUnaligned : ByteArray := prog_59_method_336_code
def yJ16_getIntUnaligned : MethodName := ⟨RJ16, "getIntUnaligned", "(Ljava/lang/Object;J)I"⟩
def dkwJ16_getIntUnaligned_3 : List UInt8 := [43, 32, 20, 1, 93, 97, 182, 0, 39, 184, 2, 211, 172]
abbrev dktJ16_getIntUnaligned_3 : List UInt8 := dkwJ16_getIntUnaligned_3 ++ []
def dkwJ16_getIntUnaligned_2 : List UInt8 := [43, 32, 182, 0, 39, 42, 43, 32, 10, 97, 182, 0, 39, 42, 43, 32, 20, 0, 203, 97, 182, 0, 39, 42]
abbrev dktJ16_getIntUnaligned_2 : List UInt8 := dkwJ16_getIntUnaligned_2 ++ dktJ16_getIntUnaligned_3
def dkwJ16_getIntUnaligned_1 : List UInt8 := [154, 0, 23, 42, 43, 32, 182, 0, 47, 42, 43, 32, 20, 0, 203, 97, 182, 0, 47, 184, 2, 207, 172, 42]
abbrev dktJ16_getIntUnaligned_1 : List UInt8 := dkwJ16_getIntUnaligned_1 ++ dktJ16_getIntUnaligned_2
def dkwJ16_getIntUnaligned_0 : List UInt8 := [32, 20, 1, 93, 127, 9, 148, 154, 0, 10, 42, 43, 32, 182, 0, 17, 172, 32, 10, 127, 9, 148]
abbrev dktJ16_getIntUnaligned_0 : List UInt8 := dkwJ16_getIntUnaligned_0 ++ dktJ16_getIntUnaligned_1
theorem dksJ16_getIntUnaligned_0 : cJ16_getIntUnaligned.data.toList.drop 0 = dktJ16_getIntUnaligned_0 := by decide +kernel
theorem dksJ16_getIntUnaligned_1 : cJ16_getIntUnaligned.data.toList.drop 22 = dktJ16_getIntUnaligned_1 := dk_seg dksJ16_getIntUnaligned_0 22 rfl rfl
theorem dksJ16_getIntUnaligned_2 : cJ16_getIntUnaligned.data.toList.drop 46 = dktJ16_getIntUnaligned_2 := dk_seg dksJ16_getIntUnaligned_1 24 rfl rfl
theorem dksJ16_getIntUnaligned_3 : cJ16_getIntUnaligned.data.toList.drop 70 = dktJ16_getIntUnaligned_3 := dk_seg dksJ16_getIntUnaligned_2 24 rfl rfl
theorem dJ16_getIntUnaligned_0 : decode cJ16_getIntUnaligned 0 = .ok (.lload_n 2, 1) := dk_32 (dk_at dksJ16_getIntUnaligned_0 0 rfl rfl)
theorem dJ16_getIntUnaligned_1 : decode cJ16_getIntUnaligned 1 = .ok (.ldc2_w 349, 3) := dk_20 1 93 (dk_at dksJ16_getIntUnaligned_0 1 rfl rfl)
theorem dJ16_getIntUnaligned_4 : decode cJ16_getIntUnaligned 4 = .ok (.land, 1) := dk_127 (dk_at dksJ16_getIntUnaligned_0 4 rfl rfl)
theorem dJ16_getIntUnaligned_5 : decode cJ16_getIntUnaligned 5 = .ok (.lconst 0, 1) := dk_9 (dk_at dksJ16_getIntUnaligned_0 5 rfl rfl)
theorem dJ16_getIntUnaligned_6 : decode cJ16_getIntUnaligned 6 = .ok (.lcmp, 1) := dk_148 (dk_at dksJ16_getIntUnaligned_0 6 rfl rfl)
theorem dJ16_getIntUnaligned_7 : decode cJ16_getIntUnaligned 7 = .ok (.ifCond .ne 10, 3) := dk_154 0 10 (dk_at dksJ16_getIntUnaligned_0 7 rfl rfl)
theorem dJ16_getIntUnaligned_10 : decode cJ16_getIntUnaligned 10 = .ok (.aload_n 0, 1) := dk_42 (dk_at dksJ16_getIntUnaligned_0 10 rfl rfl)
theorem dJ16_getIntUnaligned_11 : decode cJ16_getIntUnaligned 11 = .ok (.aload_n 1, 1) := dk_43 (dk_at dksJ16_getIntUnaligned_0 11 rfl rfl)
theorem dJ16_getIntUnaligned_12 : decode cJ16_getIntUnaligned 12 = .ok (.lload_n 2, 1) := dk_32 (dk_at dksJ16_getIntUnaligned_0 12 rfl rfl)
theorem dJ16_getIntUnaligned_13 : decode cJ16_getIntUnaligned 13 = .ok (.invokevirtual 17, 3) := dk_182 0 17 (dk_at dksJ16_getIntUnaligned_0 13 rfl rfl)
theorem dJ16_getIntUnaligned_16 : decode cJ16_getIntUnaligned 16 = .ok (.ireturn, 1) := dk_172 (dk_at dksJ16_getIntUnaligned_0 16 rfl rfl)
theorem dJ16_getIntUnaligned_17 : decode cJ16_getIntUnaligned 17 = .ok (.lload_n 2, 1) := dk_32 (dk_at dksJ16_getIntUnaligned_0 17 rfl rfl)
theorem dJ16_getIntUnaligned_18 : decode cJ16_getIntUnaligned 18 = .ok (.lconst 1, 1) := dk_10 (dk_at dksJ16_getIntUnaligned_0 18 rfl rfl)
theorem dJ16_getIntUnaligned_19 : decode cJ16_getIntUnaligned 19 = .ok (.land, 1) := dk_127 (dk_at dksJ16_getIntUnaligned_0 19 rfl rfl)
theorem dJ16_getIntUnaligned_20 : decode cJ16_getIntUnaligned 20 = .ok (.lconst 0, 1) := dk_9 (dk_at dksJ16_getIntUnaligned_0 20 rfl rfl)
theorem dJ16_getIntUnaligned_21 : decode cJ16_getIntUnaligned 21 = .ok (.lcmp, 1) := dk_148 (dk_at dksJ16_getIntUnaligned_0 21 rfl rfl)
theorem dJ16_getIntUnaligned_22 : decode cJ16_getIntUnaligned 22 = .ok (.ifCond .ne 23, 3) := dk_154 0 23 (dk_at dksJ16_getIntUnaligned_1 0 rfl rfl)
theorem dJ16_getIntUnaligned_25 : decode cJ16_getIntUnaligned 25 = .ok (.aload_n 0, 1) := dk_42 (dk_at dksJ16_getIntUnaligned_1 3 rfl rfl)
theorem dJ16_getIntUnaligned_26 : decode cJ16_getIntUnaligned 26 = .ok (.aload_n 1, 1) := dk_43 (dk_at dksJ16_getIntUnaligned_1 4 rfl rfl)
theorem dJ16_getIntUnaligned_27 : decode cJ16_getIntUnaligned 27 = .ok (.lload_n 2, 1) := dk_32 (dk_at dksJ16_getIntUnaligned_1 5 rfl rfl)
theorem dJ16_getIntUnaligned_28 : decode cJ16_getIntUnaligned 28 = .ok (.invokevirtual 47, 3) := dk_182 0 47 (dk_at dksJ16_getIntUnaligned_1 6 rfl rfl)
theorem dJ16_getIntUnaligned_31 : decode cJ16_getIntUnaligned 31 = .ok (.aload_n 0, 1) := dk_42 (dk_at dksJ16_getIntUnaligned_1 9 rfl rfl)
theorem dJ16_getIntUnaligned_32 : decode cJ16_getIntUnaligned 32 = .ok (.aload_n 1, 1) := dk_43 (dk_at dksJ16_getIntUnaligned_1 10 rfl rfl)
theorem dJ16_getIntUnaligned_33 : decode cJ16_getIntUnaligned 33 = .ok (.lload_n 2, 1) := dk_32 (dk_at dksJ16_getIntUnaligned_1 11 rfl rfl)
theorem dJ16_getIntUnaligned_34 : decode cJ16_getIntUnaligned 34 = .ok (.ldc2_w 203, 3) := dk_20 0 203 (dk_at dksJ16_getIntUnaligned_1 12 rfl rfl)
theorem dJ16_getIntUnaligned_37 : decode cJ16_getIntUnaligned 37 = .ok (.ladd, 1) := dk_97 (dk_at dksJ16_getIntUnaligned_1 15 rfl rfl)
theorem dJ16_getIntUnaligned_38 : decode cJ16_getIntUnaligned 38 = .ok (.invokevirtual 47, 3) := dk_182 0 47 (dk_at dksJ16_getIntUnaligned_1 16 rfl rfl)
theorem dJ16_getIntUnaligned_41 : decode cJ16_getIntUnaligned 41 = .ok (.invokestatic 719, 3) := dk_184 2 207 (dk_at dksJ16_getIntUnaligned_1 19 rfl rfl)
theorem dJ16_getIntUnaligned_44 : decode cJ16_getIntUnaligned 44 = .ok (.ireturn, 1) := dk_172 (dk_at dksJ16_getIntUnaligned_1 22 rfl rfl)
theorem dJ16_getIntUnaligned_45 : decode cJ16_getIntUnaligned 45 = .ok (.aload_n 0, 1) := dk_42 (dk_at dksJ16_getIntUnaligned_1 23 rfl rfl)
theorem dJ16_getIntUnaligned_46 : decode cJ16_getIntUnaligned 46 = .ok (.aload_n 1, 1) := dk_43 (dk_at dksJ16_getIntUnaligned_2 0 rfl rfl)
theorem dJ16_getIntUnaligned_47 : decode cJ16_getIntUnaligned 47 = .ok (.lload_n 2, 1) := dk_32 (dk_at dksJ16_getIntUnaligned_2 1 rfl rfl)
theorem dJ16_getIntUnaligned_48 : decode cJ16_getIntUnaligned 48 = .ok (.invokevirtual 39, 3) := dk_182 0 39 (dk_at dksJ16_getIntUnaligned_2 2 rfl rfl)
theorem dJ16_getIntUnaligned_51 : decode cJ16_getIntUnaligned 51 = .ok (.aload_n 0, 1) := dk_42 (dk_at dksJ16_getIntUnaligned_2 5 rfl rfl)
theorem dJ16_getIntUnaligned_52 : decode cJ16_getIntUnaligned 52 = .ok (.aload_n 1, 1) := dk_43 (dk_at dksJ16_getIntUnaligned_2 6 rfl rfl)
theorem dJ16_getIntUnaligned_53 : decode cJ16_getIntUnaligned 53 = .ok (.lload_n 2, 1) := dk_32 (dk_at dksJ16_getIntUnaligned_2 7 rfl rfl)
theorem dJ16_getIntUnaligned_54 : decode cJ16_getIntUnaligned 54 = .ok (.lconst 1, 1) := dk_10 (dk_at dksJ16_getIntUnaligned_2 8 rfl rfl)
theorem dJ16_getIntUnaligned_55 : decode cJ16_getIntUnaligned 55 = .ok (.ladd, 1) := dk_97 (dk_at dksJ16_getIntUnaligned_2 9 rfl rfl)
theorem dJ16_getIntUnaligned_56 : decode cJ16_getIntUnaligned 56 = .ok (.invokevirtual 39, 3) := dk_182 0 39 (dk_at dksJ16_getIntUnaligned_2 10 rfl rfl)
theorem dJ16_getIntUnaligned_59 : decode cJ16_getIntUnaligned 59 = .ok (.aload_n 0, 1) := dk_42 (dk_at dksJ16_getIntUnaligned_2 13 rfl rfl)
theorem dJ16_getIntUnaligned_60 : decode cJ16_getIntUnaligned 60 = .ok (.aload_n 1, 1) := dk_43 (dk_at dksJ16_getIntUnaligned_2 14 rfl rfl)
theorem dJ16_getIntUnaligned_61 : decode cJ16_getIntUnaligned 61 = .ok (.lload_n 2, 1) := dk_32 (dk_at dksJ16_getIntUnaligned_2 15 rfl rfl)
theorem dJ16_getIntUnaligned_62 : decode cJ16_getIntUnaligned 62 = .ok (.ldc2_w 203, 3) := dk_20 0 203 (dk_at dksJ16_getIntUnaligned_2 16 rfl rfl)
theorem dJ16_getIntUnaligned_65 : decode cJ16_getIntUnaligned 65 = .ok (.ladd, 1) := dk_97 (dk_at dksJ16_getIntUnaligned_2 19 rfl rfl)
theorem dJ16_getIntUnaligned_66 : decode cJ16_getIntUnaligned 66 = .ok (.invokevirtual 39, 3) := dk_182 0 39 (dk_at dksJ16_getIntUnaligned_2 20 rfl rfl)
theorem dJ16_getIntUnaligned_69 : decode cJ16_getIntUnaligned 69 = .ok (.aload_n 0, 1) := dk_42 (dk_at dksJ16_getIntUnaligned_2 23 rfl rfl)
theorem dJ16_getIntUnaligned_70 : decode cJ16_getIntUnaligned 70 = .ok (.aload_n 1, 1) := dk_43 (dk_at dksJ16_getIntUnaligned_3 0 rfl rfl)
theorem dJ16_getIntUnaligned_71 : decode cJ16_getIntUnaligned 71 = .ok (.lload_n 2, 1) := dk_32 (dk_at dksJ16_getIntUnaligned_3 1 rfl rfl)
theorem dJ16_getIntUnaligned_72 : decode cJ16_getIntUnaligned 72 = .ok (.ldc2_w 349, 3) := dk_20 1 93 (dk_at dksJ16_getIntUnaligned_3 2 rfl rfl)
theorem dJ16_getIntUnaligned_75 : decode cJ16_getIntUnaligned 75 = .ok (.ladd, 1) := dk_97 (dk_at dksJ16_getIntUnaligned_3 5 rfl rfl)
theorem dJ16_getIntUnaligned_76 : decode cJ16_getIntUnaligned 76 = .ok (.invokevirtual 39, 3) := dk_182 0 39 (dk_at dksJ16_getIntUnaligned_3 6 rfl rfl)
theorem dJ16_getIntUnaligned_79 : decode cJ16_getIntUnaligned 79 = .ok (.invokestatic 723, 3) := dk_184 2 211 (dk_at dksJ16_getIntUnaligned_3 9 rfl rfl)
theorem dJ16_getIntUnaligned_82 : decode cJ16_getIntUnaligned 82 = .ok (.ireturn, 1) := dk_172 (dk_at dksJ16_getIntUnaligned_3 12 rfl rfl)
abbrev cJ16_makeInt : ByteArray := prog_59_method_354_code
def yJ16_makeInt : MethodName := ⟨RJ16, "makeInt", "(SS)I"⟩
def dkwJ16_makeInt_1 : List UInt8 := [172]
abbrev dktJ16_makeInt_1 : List UInt8 := dkwJ16_makeInt_1 ++ []
def dkwJ16_makeInt_0 : List UInt8 := [26, 184, 3, 24, 16, 16, 3, 184, 3, 16, 120, 27, 184, 3, 24, 16, 16, 16, 16, 184, 3, 16, 120, 128]
abbrev dktJ16_makeInt_0 : List UInt8 := dkwJ16_makeInt_0 ++ dktJ16_makeInt_1
theorem dksJ16_makeInt_0 : cJ16_makeInt.data.toList.drop 0 = dktJ16_makeInt_0 := by decide +kernel
theorem dksJ16_makeInt_1 : cJ16_makeInt.data.toList.drop 24 = dktJ16_makeInt_1 := dk_seg dksJ16_makeInt_0 24 rfl rfl
theorem dJ16_makeInt_0 : decode cJ16_makeInt 0 = .ok (.iload_n 0, 1) := dk_26 (dk_at dksJ16_makeInt_0 0 rfl rfl)
theorem dJ16_makeInt_1 : decode cJ16_makeInt 1 = .ok (.invokestatic 792, 3) := dk_184 3 24 (dk_at dksJ16_makeInt_0 1 rfl rfl)
theorem dJ16_makeInt_4 : decode cJ16_makeInt 4 = .ok (.bipush 16, 2) := dk_16 16 (dk_at dksJ16_makeInt_0 4 rfl rfl)
theorem dJ16_makeInt_6 : decode cJ16_makeInt 6 = .ok (.iconst 0, 1) := dk_3 (dk_at dksJ16_makeInt_0 6 rfl rfl)
theorem dJ16_makeInt_7 : decode cJ16_makeInt 7 = .ok (.invokestatic 784, 3) := dk_184 3 16 (dk_at dksJ16_makeInt_0 7 rfl rfl)
theorem dJ16_makeInt_10 : decode cJ16_makeInt 10 = .ok (.ishl, 1) := dk_120 (dk_at dksJ16_makeInt_0 10 rfl rfl)
theorem dJ16_makeInt_11 : decode cJ16_makeInt 11 = .ok (.iload_n 1, 1) := dk_27 (dk_at dksJ16_makeInt_0 11 rfl rfl)
theorem dJ16_makeInt_12 : decode cJ16_makeInt 12 = .ok (.invokestatic 792, 3) := dk_184 3 24 (dk_at dksJ16_makeInt_0 12 rfl rfl)
theorem dJ16_makeInt_15 : decode cJ16_makeInt 15 = .ok (.bipush 16, 2) := dk_16 16 (dk_at dksJ16_makeInt_0 15 rfl rfl)
theorem dJ16_makeInt_17 : decode cJ16_makeInt 17 = .ok (.bipush 16, 2) := dk_16 16 (dk_at dksJ16_makeInt_0 17 rfl rfl)
theorem dJ16_makeInt_19 : decode cJ16_makeInt 19 = .ok (.invokestatic 784, 3) := dk_184 3 16 (dk_at dksJ16_makeInt_0 19 rfl rfl)
theorem dJ16_makeInt_22 : decode cJ16_makeInt 22 = .ok (.ishl, 1) := dk_120 (dk_at dksJ16_makeInt_0 22 rfl rfl)
theorem dJ16_makeInt_23 : decode cJ16_makeInt 23 = .ok (.ior, 1) := dk_128 (dk_at dksJ16_makeInt_0 23 rfl rfl)
theorem dJ16_makeInt_24 : decode cJ16_makeInt 24 = .ok (.ireturn, 1) := dk_172 (dk_at dksJ16_makeInt_1 0 rfl rfl)
abbrev cJ16_toUnsignedInt : ByteArray := prog_59_method_367_code
def yJ16_toUnsignedInt : MethodName := ⟨RJ16, "toUnsignedInt", "(S)I"⟩
def dkwJ16_toUnsignedInt_0 : List UInt8 := [26, 19, 1, 118, 126, 172]
abbrev dktJ16_toUnsignedInt_0 : List UInt8 := dkwJ16_toUnsignedInt_0 ++ []
theorem dksJ16_toUnsignedInt_0 : cJ16_toUnsignedInt.data.toList.drop 0 = dktJ16_toUnsignedInt_0 := by decide +kernel
theorem dJ16_toUnsignedInt_0 : decode cJ16_toUnsignedInt 0 = .ok (.iload_n 0, 1) := dk_26 (dk_at dksJ16_toUnsignedInt_0 0 rfl rfl)
theorem dJ16_toUnsignedInt_1 : decode cJ16_toUnsignedInt 1 = .ok (.ldc_w 374, 3) := dk_19 1 118 (dk_at dksJ16_toUnsignedInt_0 1 rfl rfl)
theorem dJ16_toUnsignedInt_4 : decode cJ16_toUnsignedInt 4 = .ok (.iand, 1) := dk_126 (dk_at dksJ16_toUnsignedInt_0 4 rfl rfl)
theorem dJ16_toUnsignedInt_5 : decode cJ16_toUnsignedInt 5 = .ok (.ireturn, 1) := dk_172 (dk_at dksJ16_toUnsignedInt_0 5 rfl rfl)
abbrev cJ16_makeInt_2 : ByteArray := prog_59_method_355_code
def yJ16_makeInt_2 : MethodName := ⟨RJ16, "makeInt", "(BBBB)I"⟩
def dkwJ16_makeInt_2_2 : List UInt8 := [120, 128, 172]
abbrev dktJ16_makeInt_2_2 : List UInt8 := dkwJ16_makeInt_2_2 ++ []
def dkwJ16_makeInt_2_1 : List UInt8 := [28, 184, 3, 28, 16, 24, 16, 16, 184, 3, 16, 120, 128, 29, 184, 3, 28, 16, 24, 16, 24, 184, 3, 16]
abbrev dktJ16_makeInt_2_1 : List UInt8 := dkwJ16_makeInt_2_1 ++ dktJ16_makeInt_2_2
def dkwJ16_makeInt_2_0 : List UInt8 := [26, 184, 3, 28, 16, 24, 3, 184, 3, 16, 120, 27, 184, 3, 28, 16, 24, 16, 8, 184, 3, 16, 120, 128]
abbrev dktJ16_makeInt_2_0 : List UInt8 := dkwJ16_makeInt_2_0 ++ dktJ16_makeInt_2_1
theorem dksJ16_makeInt_2_0 : cJ16_makeInt_2.data.toList.drop 0 = dktJ16_makeInt_2_0 := by decide +kernel
theorem dksJ16_makeInt_2_1 : cJ16_makeInt_2.data.toList.drop 24 = dktJ16_makeInt_2_1 := dk_seg dksJ16_makeInt_2_0 24 rfl rfl
theorem dksJ16_makeInt_2_2 : cJ16_makeInt_2.data.toList.drop 48 = dktJ16_makeInt_2_2 := dk_seg dksJ16_makeInt_2_1 24 rfl rfl
theorem dJ16_makeInt_2_0 : decode cJ16_makeInt_2 0 = .ok (.iload_n 0, 1) := dk_26 (dk_at dksJ16_makeInt_2_0 0 rfl rfl)
theorem dJ16_makeInt_2_1 : decode cJ16_makeInt_2 1 = .ok (.invokestatic 796, 3) := dk_184 3 28 (dk_at dksJ16_makeInt_2_0 1 rfl rfl)
theorem dJ16_makeInt_2_4 : decode cJ16_makeInt_2 4 = .ok (.bipush 24, 2) := dk_16 24 (dk_at dksJ16_makeInt_2_0 4 rfl rfl)
theorem dJ16_makeInt_2_6 : decode cJ16_makeInt_2 6 = .ok (.iconst 0, 1) := dk_3 (dk_at dksJ16_makeInt_2_0 6 rfl rfl)
theorem dJ16_makeInt_2_7 : decode cJ16_makeInt_2 7 = .ok (.invokestatic 784, 3) := dk_184 3 16 (dk_at dksJ16_makeInt_2_0 7 rfl rfl)
theorem dJ16_makeInt_2_10 : decode cJ16_makeInt_2 10 = .ok (.ishl, 1) := dk_120 (dk_at dksJ16_makeInt_2_0 10 rfl rfl)
theorem dJ16_makeInt_2_11 : decode cJ16_makeInt_2 11 = .ok (.iload_n 1, 1) := dk_27 (dk_at dksJ16_makeInt_2_0 11 rfl rfl)
theorem dJ16_makeInt_2_12 : decode cJ16_makeInt_2 12 = .ok (.invokestatic 796, 3) := dk_184 3 28 (dk_at dksJ16_makeInt_2_0 12 rfl rfl)
theorem dJ16_makeInt_2_15 : decode cJ16_makeInt_2 15 = .ok (.bipush 24, 2) := dk_16 24 (dk_at dksJ16_makeInt_2_0 15 rfl rfl)
theorem dJ16_makeInt_2_17 : decode cJ16_makeInt_2 17 = .ok (.bipush 8, 2) := dk_16 8 (dk_at dksJ16_makeInt_2_0 17 rfl rfl)
theorem dJ16_makeInt_2_19 : decode cJ16_makeInt_2 19 = .ok (.invokestatic 784, 3) := dk_184 3 16 (dk_at dksJ16_makeInt_2_0 19 rfl rfl)
theorem dJ16_makeInt_2_22 : decode cJ16_makeInt_2 22 = .ok (.ishl, 1) := dk_120 (dk_at dksJ16_makeInt_2_0 22 rfl rfl)
theorem dJ16_makeInt_2_23 : decode cJ16_makeInt_2 23 = .ok (.ior, 1) := dk_128 (dk_at dksJ16_makeInt_2_0 23 rfl rfl)
theorem dJ16_makeInt_2_24 : decode cJ16_makeInt_2 24 = .ok (.iload_n 2, 1) := dk_28 (dk_at dksJ16_makeInt_2_1 0 rfl rfl)
theorem dJ16_makeInt_2_25 : decode cJ16_makeInt_2 25 = .ok (.invokestatic 796, 3) := dk_184 3 28 (dk_at dksJ16_makeInt_2_1 1 rfl rfl)
theorem dJ16_makeInt_2_28 : decode cJ16_makeInt_2 28 = .ok (.bipush 24, 2) := dk_16 24 (dk_at dksJ16_makeInt_2_1 4 rfl rfl)
theorem dJ16_makeInt_2_30 : decode cJ16_makeInt_2 30 = .ok (.bipush 16, 2) := dk_16 16 (dk_at dksJ16_makeInt_2_1 6 rfl rfl)
theorem dJ16_makeInt_2_32 : decode cJ16_makeInt_2 32 = .ok (.invokestatic 784, 3) := dk_184 3 16 (dk_at dksJ16_makeInt_2_1 8 rfl rfl)
theorem dJ16_makeInt_2_35 : decode cJ16_makeInt_2 35 = .ok (.ishl, 1) := dk_120 (dk_at dksJ16_makeInt_2_1 11 rfl rfl)
theorem dJ16_makeInt_2_36 : decode cJ16_makeInt_2 36 = .ok (.ior, 1) := dk_128 (dk_at dksJ16_makeInt_2_1 12 rfl rfl)
theorem dJ16_makeInt_2_37 : decode cJ16_makeInt_2 37 = .ok (.iload_n 3, 1) := dk_29 (dk_at dksJ16_makeInt_2_1 13 rfl rfl)
theorem dJ16_makeInt_2_38 : decode cJ16_makeInt_2 38 = .ok (.invokestatic 796, 3) := dk_184 3 28 (dk_at dksJ16_makeInt_2_1 14 rfl rfl)
theorem dJ16_makeInt_2_41 : decode cJ16_makeInt_2 41 = .ok (.bipush 24, 2) := dk_16 24 (dk_at dksJ16_makeInt_2_1 17 rfl rfl)
theorem dJ16_makeInt_2_43 : decode cJ16_makeInt_2 43 = .ok (.bipush 24, 2) := dk_16 24 (dk_at dksJ16_makeInt_2_1 19 rfl rfl)
theorem dJ16_makeInt_2_45 : decode cJ16_makeInt_2 45 = .ok (.invokestatic 784, 3) := dk_184 3 16 (dk_at dksJ16_makeInt_2_1 21 rfl rfl)
theorem dJ16_makeInt_2_48 : decode cJ16_makeInt_2 48 = .ok (.ishl, 1) := dk_120 (dk_at dksJ16_makeInt_2_2 0 rfl rfl)
theorem dJ16_makeInt_2_49 : decode cJ16_makeInt_2 49 = .ok (.ior, 1) := dk_128 (dk_at dksJ16_makeInt_2_2 1 rfl rfl)
theorem dJ16_makeInt_2_50 : decode cJ16_makeInt_2 50 = .ok (.ireturn, 1) := dk_172 (dk_at dksJ16_makeInt_2_2 2 rfl rfl)
abbrev cJ16_toUnsignedInt_2 : ByteArray := prog_59_method_366_code
def yJ16_toUnsignedInt_2 : MethodName := ⟨RJ16, "toUnsignedInt", "(B)I"⟩
def dkwJ16_toUnsignedInt_2_0 : List UInt8 := [26, 17, 0, 255, 126, 172]
abbrev dktJ16_toUnsignedInt_2_0 : List UInt8 := dkwJ16_toUnsignedInt_2_0 ++ []
theorem dksJ16_toUnsignedInt_2_0 : cJ16_toUnsignedInt_2.data.toList.drop 0 = dktJ16_toUnsignedInt_2_0 := by decide +kernel
theorem dJ16_toUnsignedInt_2_0 : decode cJ16_toUnsignedInt_2 0 = .ok (.iload_n 0, 1) := dk_26 (dk_at dksJ16_toUnsignedInt_2_0 0 rfl rfl)
theorem dJ16_toUnsignedInt_2_1 : decode cJ16_toUnsignedInt_2 1 = .ok (.sipush 255, 3) := dk_17 0 255 (dk_at dksJ16_toUnsignedInt_2_0 1 rfl rfl)
theorem dJ16_toUnsignedInt_2_4 : decode cJ16_toUnsignedInt_2 4 = .ok (.iand, 1) := dk_126 (dk_at dksJ16_toUnsignedInt_2_0 4 rfl rfl)
theorem dJ16_toUnsignedInt_2_5 : decode cJ16_toUnsignedInt_2 5 = .ok (.ireturn, 1) := dk_172 (dk_at dksJ16_toUnsignedInt_2_0 5 rfl rfl)
theorem q160 : (Jvm.Cond.initialized "jdk/internal/misc/Unsafe") ∈ lw_all := lw_g (lw_at lw_m1 35 rfl) rfl
theorem q784 : (Jvm.Cond.selects "jdk/internal/misc/Unsafe" ({ cls := "java/lang/Object", name := "getClass", desc := "()Ljava/lang/Class;" } : Jvm.MethodName) ({ cls := "java/lang/Object", name := "getClass", desc := "()Ljava/lang/Class;" } : Jvm.MethodName)) ∈ lw_all := lw_g (lw_at lw_m3 179 rfl) rfl
theorem q1137 : (Jvm.Cond.laysStatic "jdk/internal/misc/Unsafe" "ARRAY_BYTE_BASE_OFFSET" "I") ∈ lw_tbl := lw_at lw_m5 52 rfl
theorem q1148 : (Jvm.Cond.instanceMethod ({ cls := "jdk/internal/misc/Unsafe", name := "getLongUnaligned", desc := "(Ljava/lang/Object;J)J" } : Jvm.MethodName)) ∈ lw_all := lw_g (lw_at lw_m5 63 rfl) rfl
theorem q1149 : (Jvm.Cond.selects "jdk/internal/misc/Unsafe" ({ cls := "jdk/internal/misc/Unsafe", name := "getLongUnaligned", desc := "(Ljava/lang/Object;J)J" } : Jvm.MethodName) ({ cls := "jdk/internal/misc/Unsafe", name := "getLongUnaligned", desc := "(Ljava/lang/Object;J)J" } : Jvm.MethodName)) ∈ lw_all := lw_g (lw_at lw_m5 64 rfl) rfl
theorem q1150 : (Jvm.Cond.code ({ cls := "jdk/internal/misc/Unsafe", name := "getLongUnaligned", desc := "(Ljava/lang/Object;J)J" } : Jvm.MethodName) prog_59_method_334_code (4 : Nat) (Option.some Jvm.ClassFile.FieldType.long)) ∈ lw_all := lw_g (lw_at lw_m5 65 rfl) rfl
theorem q1151 : (Jvm.Cond.constantLong "jdk/internal/misc/Unsafe" (696 : Nat) (7 : Int64)) ∈ lw_all := lw_g (lw_at lw_m5 66 rfl) rfl
theorem q1152 : (Jvm.Cond.methodLink "jdk/internal/misc/Unsafe" (27 : Nat) ({ cls := "jdk/internal/misc/Unsafe", name := "getLong", desc := "(Ljava/lang/Object;J)J" } : Jvm.MethodName)) ∈ lw_all := lw_g (lw_at lw_m5 67 rfl) rfl
theorem q1153 : (Jvm.Cond.instanceMethod ({ cls := "jdk/internal/misc/Unsafe", name := "getLong", desc := "(Ljava/lang/Object;J)J" } : Jvm.MethodName)) ∈ lw_all := lw_g (lw_at lw_m5 68 rfl) rfl
theorem q1154 : (Jvm.Cond.selects "jdk/internal/misc/Unsafe" ({ cls := "jdk/internal/misc/Unsafe", name := "getLong", desc := "(Ljava/lang/Object;J)J" } : Jvm.MethodName) ({ cls := "jdk/internal/misc/Unsafe", name := "getLong", desc := "(Ljava/lang/Object;J)J" } : Jvm.MethodName)) ∈ lw_all := lw_g (lw_at lw_m5 69 rfl) rfl
theorem q1155 : (Jvm.Cond.native ({ cls := "jdk/internal/misc/Unsafe", name := "getLong", desc := "(Ljava/lang/Object;J)J" } : Jvm.MethodName)) ∈ lw_all := lw_g (lw_at lw_m5 70 rfl) rfl
theorem q1156 : (Jvm.Cond.constantLong "jdk/internal/misc/Unsafe" (349 : Nat) (3 : Int64)) ∈ lw_all := lw_g (lw_at lw_m5 71 rfl) rfl
theorem q1157 : (Jvm.Cond.methodLink "jdk/internal/misc/Unsafe" (17 : Nat) ({ cls := "jdk/internal/misc/Unsafe", name := "getInt", desc := "(Ljava/lang/Object;J)I" } : Jvm.MethodName)) ∈ lw_all := lw_g (lw_at lw_m5 72 rfl) rfl
theorem q1158 : (Jvm.Cond.instanceMethod ({ cls := "jdk/internal/misc/Unsafe", name := "getInt", desc := "(Ljava/lang/Object;J)I" } : Jvm.MethodName)) ∈ lw_all := lw_g (lw_at lw_m5 73 rfl) rfl
theorem q1159 : (Jvm.Cond.selects "jdk/internal/misc/Unsafe" ({ cls := "jdk/internal/misc/Unsafe", name := "getInt", desc := "(Ljava/lang/Object;J)I" } : Jvm.MethodName) ({ cls := "jdk/internal/misc/Unsafe", name := "getInt", desc := "(Ljava/lang/Object;J)I" } : Jvm.MethodName)) ∈ lw_all := lw_g (lw_at lw_m5 74 rfl) rfl
theorem q1160 : (Jvm.Cond.native ({ cls := "jdk/internal/misc/Unsafe", name := "getInt", desc := "(Ljava/lang/Object;J)I" } : Jvm.MethodName)) ∈ lw_all := lw_g (lw_at lw_m5 75 rfl) rfl
theorem q1161 : (Jvm.Cond.constantLong "jdk/internal/misc/Unsafe" (205 : Nat) (4 : Int64)) ∈ lw_all := lw_g (lw_at lw_m5 76 rfl) rfl
theorem q1162 : (Jvm.Cond.methodLink "jdk/internal/misc/Unsafe" (698 : Nat) ({ cls := "jdk/internal/misc/Unsafe", name := "makeLong", desc := "(II)J" } : Jvm.MethodName)) ∈ lw_all := lw_g (lw_at lw_m5 77 rfl) rfl
theorem q1163 : (Jvm.Cond.static ({ cls := "jdk/internal/misc/Unsafe", name := "makeLong", desc := "(II)J" } : Jvm.MethodName)) ∈ lw_all := lw_g (lw_at lw_m5 78 rfl) rfl
theorem q1164 : (Jvm.Cond.code ({ cls := "jdk/internal/misc/Unsafe", name := "makeLong", desc := "(II)J" } : Jvm.MethodName) prog_59_method_353_code (2 : Nat) (Option.some Jvm.ClassFile.FieldType.long)) ∈ lw_all := lw_g (lw_at lw_m5 79 rfl) rfl
theorem q1165 : (Jvm.Cond.methodLink "jdk/internal/misc/Unsafe" (791 : Nat) ({ cls := "jdk/internal/misc/Unsafe", name := "toUnsignedLong", desc := "(I)J" } : Jvm.MethodName)) ∈ lw_all := lw_g (lw_at lw_m5 80 rfl) rfl
theorem q1166 : (Jvm.Cond.static ({ cls := "jdk/internal/misc/Unsafe", name := "toUnsignedLong", desc := "(I)J" } : Jvm.MethodName)) ∈ lw_all := lw_g (lw_at lw_m5 81 rfl) rfl
theorem q1167 : (Jvm.Cond.code ({ cls := "jdk/internal/misc/Unsafe", name := "toUnsignedLong", desc := "(I)J" } : Jvm.MethodName) prog_59_method_370_code (1 : Nat) (Option.some Jvm.ClassFile.FieldType.long)) ∈ lw_all := lw_g (lw_at lw_m5 82 rfl) rfl
theorem q1168 : (Jvm.Cond.constantLong "jdk/internal/misc/Unsafe" (812 : Nat) (4294967295 : Int64)) ∈ lw_all := lw_g (lw_at lw_m5 83 rfl) rfl
theorem q1169 : (Jvm.Cond.methodLink "jdk/internal/misc/Unsafe" (784 : Nat) ({ cls := "jdk/internal/misc/Unsafe", name := "pickPos", desc := "(II)I" } : Jvm.MethodName)) ∈ lw_all := lw_g (lw_at lw_m5 84 rfl) rfl
theorem q1170 : (Jvm.Cond.static ({ cls := "jdk/internal/misc/Unsafe", name := "pickPos", desc := "(II)I" } : Jvm.MethodName)) ∈ lw_all := lw_g (lw_at lw_m5 85 rfl) rfl
theorem q1171 : (Jvm.Cond.code ({ cls := "jdk/internal/misc/Unsafe", name := "pickPos", desc := "(II)I" } : Jvm.MethodName) prog_59_method_350_code (2 : Nat) (Option.some Jvm.ClassFile.FieldType.int)) ∈ lw_all := lw_g (lw_at lw_m5 86 rfl) rfl
theorem q1172 : (Jvm.Cond.fieldLink "jdk/internal/misc/Unsafe" (351 : Nat) "jdk/internal/misc/UnsafeConstants" "BIG_ENDIAN" "Z") ∈ lw_all := lw_g (lw_at lw_m5 87 rfl) rfl
theorem q1174 : (Jvm.Cond.methodLink "jdk/internal/misc/Unsafe" (47 : Nat) ({ cls := "jdk/internal/misc/Unsafe", name := "getShort", desc := "(Ljava/lang/Object;J)S" } : Jvm.MethodName)) ∈ lw_all := lw_g (lw_at lw_m5 89 rfl) rfl
theorem q1175 : (Jvm.Cond.instanceMethod ({ cls := "jdk/internal/misc/Unsafe", name := "getShort", desc := "(Ljava/lang/Object;J)S" } : Jvm.MethodName)) ∈ lw_all := lw_g (lw_at lw_m5 90 rfl) rfl
theorem q1176 : (Jvm.Cond.selects "jdk/internal/misc/Unsafe" ({ cls := "jdk/internal/misc/Unsafe", name := "getShort", desc := "(Ljava/lang/Object;J)S" } : Jvm.MethodName) ({ cls := "jdk/internal/misc/Unsafe", name := "getShort", desc := "(Ljava/lang/Object;J)S" } : Jvm.MethodName)) ∈ lw_all := lw_g (lw_at lw_m5 91 rfl) rfl
theorem q1177 : (Jvm.Cond.native ({ cls := "jdk/internal/misc/Unsafe", name := "getShort", desc := "(Ljava/lang/Object;J)S" } : Jvm.MethodName)) ∈ lw_all := lw_g (lw_at lw_m5 92 rfl) rfl
theorem q1178 : (Jvm.Cond.constantLong "jdk/internal/misc/Unsafe" (203 : Nat) (2 : Int64)) ∈ lw_all := lw_g (lw_at lw_m5 93 rfl) rfl
theorem q1179 : (Jvm.Cond.constantLong "jdk/internal/misc/Unsafe" (702 : Nat) (6 : Int64)) ∈ lw_all := lw_g (lw_at lw_m5 94 rfl) rfl
theorem q1180 : (Jvm.Cond.methodLink "jdk/internal/misc/Unsafe" (704 : Nat) ({ cls := "jdk/internal/misc/Unsafe", name := "makeLong", desc := "(SSSS)J" } : Jvm.MethodName)) ∈ lw_all := lw_g (lw_at lw_m5 95 rfl) rfl
theorem q1181 : (Jvm.Cond.static ({ cls := "jdk/internal/misc/Unsafe", name := "makeLong", desc := "(SSSS)J" } : Jvm.MethodName)) ∈ lw_all := lw_g (lw_at lw_m5 96 rfl) rfl
theorem q1182 : (Jvm.Cond.code ({ cls := "jdk/internal/misc/Unsafe", name := "makeLong", desc := "(SSSS)J" } : Jvm.MethodName) prog_59_method_352_code (4 : Nat) (Option.some Jvm.ClassFile.FieldType.long)) ∈ lw_all := lw_g (lw_at lw_m5 97 rfl) rfl
theorem q1183 : (Jvm.Cond.methodLink "jdk/internal/misc/Unsafe" (788 : Nat) ({ cls := "jdk/internal/misc/Unsafe", name := "toUnsignedLong", desc := "(S)J" } : Jvm.MethodName)) ∈ lw_all := lw_g (lw_at lw_m5 98 rfl) rfl
theorem q1184 : (Jvm.Cond.static ({ cls := "jdk/internal/misc/Unsafe", name := "toUnsignedLong", desc := "(S)J" } : Jvm.MethodName)) ∈ lw_all := lw_g (lw_at lw_m5 99 rfl) rfl
theorem q1185 : (Jvm.Cond.code ({ cls := "jdk/internal/misc/Unsafe", name := "toUnsignedLong", desc := "(S)J" } : Jvm.MethodName) prog_59_method_369_code (1 : Nat) (Option.some Jvm.ClassFile.FieldType.long)) ∈ lw_all := lw_g (lw_at lw_m5 100 rfl) rfl
theorem q1186 : (Jvm.Cond.constantLong "jdk/internal/misc/Unsafe" (810 : Nat) (65535 : Int64)) ∈ lw_all := lw_g (lw_at lw_m5 101 rfl) rfl
theorem q1187 : (Jvm.Cond.methodLink "jdk/internal/misc/Unsafe" (39 : Nat) ({ cls := "jdk/internal/misc/Unsafe", name := "getByte", desc := "(Ljava/lang/Object;J)B" } : Jvm.MethodName)) ∈ lw_all := lw_g (lw_at lw_m5 102 rfl) rfl
theorem q1188 : (Jvm.Cond.instanceMethod ({ cls := "jdk/internal/misc/Unsafe", name := "getByte", desc := "(Ljava/lang/Object;J)B" } : Jvm.MethodName)) ∈ lw_all := lw_g (lw_at lw_m5 103 rfl) rfl
theorem q1189 : (Jvm.Cond.selects "jdk/internal/misc/Unsafe" ({ cls := "jdk/internal/misc/Unsafe", name := "getByte", desc := "(Ljava/lang/Object;J)B" } : Jvm.MethodName) ({ cls := "jdk/internal/misc/Unsafe", name := "getByte", desc := "(Ljava/lang/Object;J)B" } : Jvm.MethodName)) ∈ lw_all := lw_g (lw_at lw_m5 104 rfl) rfl
theorem q1190 : (Jvm.Cond.native ({ cls := "jdk/internal/misc/Unsafe", name := "getByte", desc := "(Ljava/lang/Object;J)B" } : Jvm.MethodName)) ∈ lw_all := lw_g (lw_at lw_m5 105 rfl) rfl
theorem q1191 : (Jvm.Cond.constantLong "jdk/internal/misc/Unsafe" (707 : Nat) (5 : Int64)) ∈ lw_all := lw_g (lw_at lw_m5 106 rfl) rfl
theorem q1192 : (Jvm.Cond.methodLink "jdk/internal/misc/Unsafe" (709 : Nat) ({ cls := "jdk/internal/misc/Unsafe", name := "makeLong", desc := "(BBBBBBBB)J" } : Jvm.MethodName)) ∈ lw_all := lw_g (lw_at lw_m5 107 rfl) rfl
theorem q1193 : (Jvm.Cond.static ({ cls := "jdk/internal/misc/Unsafe", name := "makeLong", desc := "(BBBBBBBB)J" } : Jvm.MethodName)) ∈ lw_all := lw_g (lw_at lw_m5 108 rfl) rfl
theorem q1194 : (Jvm.Cond.code ({ cls := "jdk/internal/misc/Unsafe", name := "makeLong", desc := "(BBBBBBBB)J" } : Jvm.MethodName) prog_59_method_351_code (8 : Nat) (Option.some Jvm.ClassFile.FieldType.long)) ∈ lw_all := lw_g (lw_at lw_m5 109 rfl) rfl
theorem q1195 : (Jvm.Cond.methodLink "jdk/internal/misc/Unsafe" (781 : Nat) ({ cls := "jdk/internal/misc/Unsafe", name := "toUnsignedLong", desc := "(B)J" } : Jvm.MethodName)) ∈ lw_all := lw_g (lw_at lw_m5 110 rfl) rfl
theorem q1196 : (Jvm.Cond.static ({ cls := "jdk/internal/misc/Unsafe", name := "toUnsignedLong", desc := "(B)J" } : Jvm.MethodName)) ∈ lw_all := lw_g (lw_at lw_m5 111 rfl) rfl
theorem q1197 : (Jvm.Cond.code ({ cls := "jdk/internal/misc/Unsafe", name := "toUnsignedLong", desc := "(B)J" } : Jvm.MethodName) prog_59_method_368_code (1 : Nat) (Option.some Jvm.ClassFile.FieldType.long)) ∈ lw_all := lw_g (lw_at lw_m5 112 rfl) rfl
theorem q1198 : (Jvm.Cond.constantLong "jdk/internal/misc/Unsafe" (808 : Nat) (255 : Int64)) ∈ lw_all := lw_g (lw_at lw_m5 113 rfl) rfl
theorem q1219 : (Jvm.Cond.instanceMethod ({ cls := "jdk/internal/misc/Unsafe", name := "getIntUnaligned", desc := "(Ljava/lang/Object;J)I" } : Jvm.MethodName)) ∈ lw_all := lw_g (lw_at lw_m5 134 rfl) rfl
theorem q1220 : (Jvm.Cond.selects "jdk/internal/misc/Unsafe" ({ cls := "jdk/internal/misc/Unsafe", name := "getIntUnaligned", desc := "(Ljava/lang/Object;J)I" } : Jvm.MethodName) ({ cls := "jdk/internal/misc/Unsafe", name := "getIntUnaligned", desc := "(Ljava/lang/Object;J)I" } : Jvm.MethodName)) ∈ lw_all := lw_g (lw_at lw_m5 135 rfl) rfl
theorem q1221 : (Jvm.Cond.code ({ cls := "jdk/internal/misc/Unsafe", name := "getIntUnaligned", desc := "(Ljava/lang/Object;J)I" } : Jvm.MethodName) prog_59_method_336_code (4 : Nat) (Option.some Jvm.ClassFile.FieldType.int)) ∈ lw_all := lw_g (lw_at lw_m5 136 rfl) rfl
theorem q1222 : (Jvm.Cond.methodLink "jdk/internal/misc/Unsafe" (719 : Nat) ({ cls := "jdk/internal/misc/Unsafe", name := "makeInt", desc := "(SS)I" } : Jvm.MethodName)) ∈ lw_all := lw_g (lw_at lw_m5 137 rfl) rfl
theorem q1223 : (Jvm.Cond.static ({ cls := "jdk/internal/misc/Unsafe", name := "makeInt", desc := "(SS)I" } : Jvm.MethodName)) ∈ lw_all := lw_g (lw_at lw_m5 138 rfl) rfl
theorem q1224 : (Jvm.Cond.code ({ cls := "jdk/internal/misc/Unsafe", name := "makeInt", desc := "(SS)I" } : Jvm.MethodName) prog_59_method_354_code (2 : Nat) (Option.some Jvm.ClassFile.FieldType.int)) ∈ lw_all := lw_g (lw_at lw_m5 139 rfl) rfl
theorem q1225 : (Jvm.Cond.methodLink "jdk/internal/misc/Unsafe" (792 : Nat) ({ cls := "jdk/internal/misc/Unsafe", name := "toUnsignedInt", desc := "(S)I" } : Jvm.MethodName)) ∈ lw_all := lw_g (lw_at lw_m5 140 rfl) rfl
theorem q1226 : (Jvm.Cond.static ({ cls := "jdk/internal/misc/Unsafe", name := "toUnsignedInt", desc := "(S)I" } : Jvm.MethodName)) ∈ lw_all := lw_g (lw_at lw_m5 141 rfl) rfl
theorem q1227 : (Jvm.Cond.code ({ cls := "jdk/internal/misc/Unsafe", name := "toUnsignedInt", desc := "(S)I" } : Jvm.MethodName) prog_59_method_367_code (1 : Nat) (Option.some Jvm.ClassFile.FieldType.int)) ∈ lw_all := lw_g (lw_at lw_m5 142 rfl) rfl
theorem q1228 : (Jvm.Cond.constant "jdk/internal/misc/Unsafe" (374 : Nat) (65535 : Int32)) ∈ lw_all := lw_g (lw_at lw_m5 143 rfl) rfl
theorem q1229 : (Jvm.Cond.methodLink "jdk/internal/misc/Unsafe" (723 : Nat) ({ cls := "jdk/internal/misc/Unsafe", name := "makeInt", desc := "(BBBB)I" } : Jvm.MethodName)) ∈ lw_all := lw_g (lw_at lw_m5 144 rfl) rfl
theorem q1230 : (Jvm.Cond.static ({ cls := "jdk/internal/misc/Unsafe", name := "makeInt", desc := "(BBBB)I" } : Jvm.MethodName)) ∈ lw_all := lw_g (lw_at lw_m5 145 rfl) rfl
theorem q1231 : (Jvm.Cond.code ({ cls := "jdk/internal/misc/Unsafe", name := "makeInt", desc := "(BBBB)I" } : Jvm.MethodName) prog_59_method_355_code (4 : Nat) (Option.some Jvm.ClassFile.FieldType.int)) ∈ lw_all := lw_g (lw_at lw_m5 146 rfl) rfl
theorem q1232 : (Jvm.Cond.methodLink "jdk/internal/misc/Unsafe" (796 : Nat) ({ cls := "jdk/internal/misc/Unsafe", name := "toUnsignedInt", desc := "(B)I" } : Jvm.MethodName)) ∈ lw_all := lw_g (lw_at lw_m5 147 rfl) rfl
theorem q1233 : (Jvm.Cond.static ({ cls := "jdk/internal/misc/Unsafe", name := "toUnsignedInt", desc := "(B)I" } : Jvm.MethodName)) ∈ lw_all := lw_g (lw_at lw_m5 148 rfl) rfl
theorem q1234 : (Jvm.Cond.code ({ cls := "jdk/internal/misc/Unsafe", name := "toUnsignedInt", desc := "(B)I" } : Jvm.MethodName) prog_59_method_366_code (1 : Nat) (Option.some Jvm.ClassFile.FieldType.int)) ∈ lw_all := lw_g (lw_at lw_m5 149 rfl) rfl
theorem q2991 : (Jvm.Cond.castable "jdk/internal/misc/Unsafe" "java/lang/Object") ∈ lw_tbl := lw_at lw_m12 226 rfl

/-! java/lang/Number -/
set_option maxRecDepth 100000
def RJ17 : String := "java/lang/Number"
abbrev cJ17_init : ByteArray := prog_39_method_1_code
def yJ17_init : MethodName := ⟨RJ17, "<init>", "()V"⟩
theorem dJ17_init_0 : decode cJ17_init 0 = .ok (.aload_n 0, 1) := by decide +kernel
theorem dJ17_init_1 : decode cJ17_init 1 = .ok (.invokespecial 1, 3) := by decide +kernel
theorem dJ17_init_4 : decode cJ17_init 4 = .ok (.return_, 1) := by decide +kernel
theorem q162 : (Jvm.Cond.initialized "java/lang/Number") ∈ lw_all := lw_g (lw_at lw_m1 37 rfl) rfl
theorem q1726 : (Jvm.Cond.instanceMethod ({ cls := "java/lang/Number", name := "<init>", desc := "()V" } : Jvm.MethodName)) ∈ lw_all := lw_g (lw_at lw_m7 161 rfl) rfl
theorem q1727 : (Jvm.Cond.code ({ cls := "java/lang/Number", name := "<init>", desc := "()V" } : Jvm.MethodName) prog_39_method_1_code (1 : Nat) (Option.none : Option Jvm.ClassFile.FieldType)) ∈ lw_all := lw_g (lw_at lw_m7 162 rfl) rfl
theorem q1728 : (Jvm.Cond.methodLink "java/lang/Number" (1 : Nat) ({ cls := "java/lang/Object", name := "<init>", desc := "()V" } : Jvm.MethodName)) ∈ lw_all := lw_g (lw_at lw_m7 163 rfl) rfl

/-! java/lang/Long -/
set_option maxRecDepth 100000
def RJ18 : String := "java/lang/Long"
abbrev cJ18_numberOfLeadingZeros : ByteArray := prog_37_method_48_code
def yJ18_numberOfLeadingZeros : MethodName := ⟨RJ18, "numberOfLeadingZeros", "(J)I"⟩
def dkwJ18_numberOfLeadingZeros_1 : List UInt8 := [184, 1, 52, 172]
abbrev dktJ18_numberOfLeadingZeros_1 : List UInt8 := dkwJ18_numberOfLeadingZeros_1 ++ []
def dkwJ18_numberOfLeadingZeros_0 : List UInt8 := [30, 16, 32, 125, 136, 61, 28, 154, 0, 14, 16, 32, 30, 136, 184, 1, 52, 96, 167, 0, 7, 28]
abbrev dktJ18_numberOfLeadingZeros_0 : List UInt8 := dkwJ18_numberOfLeadingZeros_0 ++ dktJ18_numberOfLeadingZeros_1
theorem dksJ18_numberOfLeadingZeros_0 : cJ18_numberOfLeadingZeros.data.toList.drop 0 = dktJ18_numberOfLeadingZeros_0 := by decide +kernel
theorem dksJ18_numberOfLeadingZeros_1 : cJ18_numberOfLeadingZeros.data.toList.drop 22 = dktJ18_numberOfLeadingZeros_1 := dk_seg dksJ18_numberOfLeadingZeros_0 22 rfl rfl
theorem dJ18_numberOfLeadingZeros_0 : decode cJ18_numberOfLeadingZeros 0 = .ok (.lload_n 0, 1) := dk_30 (dk_at dksJ18_numberOfLeadingZeros_0 0 rfl rfl)
theorem dJ18_numberOfLeadingZeros_1 : decode cJ18_numberOfLeadingZeros 1 = .ok (.bipush 32, 2) := dk_16 32 (dk_at dksJ18_numberOfLeadingZeros_0 1 rfl rfl)
theorem dJ18_numberOfLeadingZeros_3 : decode cJ18_numberOfLeadingZeros 3 = .ok (.lushr, 1) := dk_125 (dk_at dksJ18_numberOfLeadingZeros_0 3 rfl rfl)
theorem dJ18_numberOfLeadingZeros_4 : decode cJ18_numberOfLeadingZeros 4 = .ok (.l2i, 1) := dk_136 (dk_at dksJ18_numberOfLeadingZeros_0 4 rfl rfl)
theorem dJ18_numberOfLeadingZeros_5 : decode cJ18_numberOfLeadingZeros 5 = .ok (.istore_n 2, 1) := dk_61 (dk_at dksJ18_numberOfLeadingZeros_0 5 rfl rfl)
theorem dJ18_numberOfLeadingZeros_6 : decode cJ18_numberOfLeadingZeros 6 = .ok (.iload_n 2, 1) := dk_28 (dk_at dksJ18_numberOfLeadingZeros_0 6 rfl rfl)
theorem dJ18_numberOfLeadingZeros_7 : decode cJ18_numberOfLeadingZeros 7 = .ok (.ifCond .ne 14, 3) := dk_154 0 14 (dk_at dksJ18_numberOfLeadingZeros_0 7 rfl rfl)
theorem dJ18_numberOfLeadingZeros_10 : decode cJ18_numberOfLeadingZeros 10 = .ok (.bipush 32, 2) := dk_16 32 (dk_at dksJ18_numberOfLeadingZeros_0 10 rfl rfl)
theorem dJ18_numberOfLeadingZeros_12 : decode cJ18_numberOfLeadingZeros 12 = .ok (.lload_n 0, 1) := dk_30 (dk_at dksJ18_numberOfLeadingZeros_0 12 rfl rfl)
theorem dJ18_numberOfLeadingZeros_13 : decode cJ18_numberOfLeadingZeros 13 = .ok (.l2i, 1) := dk_136 (dk_at dksJ18_numberOfLeadingZeros_0 13 rfl rfl)
theorem dJ18_numberOfLeadingZeros_14 : decode cJ18_numberOfLeadingZeros 14 = .ok (.invokestatic 308, 3) := dk_184 1 52 (dk_at dksJ18_numberOfLeadingZeros_0 14 rfl rfl)
theorem dJ18_numberOfLeadingZeros_17 : decode cJ18_numberOfLeadingZeros 17 = .ok (.iadd, 1) := dk_96 (dk_at dksJ18_numberOfLeadingZeros_0 17 rfl rfl)
theorem dJ18_numberOfLeadingZeros_18 : decode cJ18_numberOfLeadingZeros 18 = .ok (.goto 7, 3) := dk_167 0 7 (dk_at dksJ18_numberOfLeadingZeros_0 18 rfl rfl)
theorem dJ18_numberOfLeadingZeros_21 : decode cJ18_numberOfLeadingZeros 21 = .ok (.iload_n 2, 1) := dk_28 (dk_at dksJ18_numberOfLeadingZeros_0 21 rfl rfl)
theorem dJ18_numberOfLeadingZeros_22 : decode cJ18_numberOfLeadingZeros 22 = .ok (.invokestatic 308, 3) := dk_184 1 52 (dk_at dksJ18_numberOfLeadingZeros_1 0 rfl rfl)
theorem dJ18_numberOfLeadingZeros_25 : decode cJ18_numberOfLeadingZeros 25 = .ok (.ireturn, 1) := dk_172 (dk_at dksJ18_numberOfLeadingZeros_1 3 rfl rfl)
abbrev cJ18_numberOfTrailingZeros : ByteArray := prog_37_method_49_code
def yJ18_numberOfTrailingZeros : MethodName := ⟨RJ18, "numberOfTrailingZeros", "(J)I"⟩
def dkwJ18_numberOfTrailingZeros_1 : List UInt8 := [184, 1, 55, 172]
abbrev dktJ18_numberOfTrailingZeros_1 : List UInt8 := dkwJ18_numberOfTrailingZeros_1 ++ []
def dkwJ18_numberOfTrailingZeros_0 : List UInt8 := [30, 136, 61, 28, 154, 0, 17, 16, 32, 30, 16, 32, 125, 136, 184, 1, 55, 96, 167, 0, 7, 28]
abbrev dktJ18_numberOfTrailingZeros_0 : List UInt8 := dkwJ18_numberOfTrailingZeros_0 ++ dktJ18_numberOfTrailingZeros_1
theorem dksJ18_numberOfTrailingZeros_0 : cJ18_numberOfTrailingZeros.data.toList.drop 0 = dktJ18_numberOfTrailingZeros_0 := by decide +kernel
theorem dksJ18_numberOfTrailingZeros_1 : cJ18_numberOfTrailingZeros.data.toList.drop 22 = dktJ18_numberOfTrailingZeros_1 := dk_seg dksJ18_numberOfTrailingZeros_0 22 rfl rfl
theorem dJ18_numberOfTrailingZeros_0 : decode cJ18_numberOfTrailingZeros 0 = .ok (.lload_n 0, 1) := dk_30 (dk_at dksJ18_numberOfTrailingZeros_0 0 rfl rfl)
theorem dJ18_numberOfTrailingZeros_1 : decode cJ18_numberOfTrailingZeros 1 = .ok (.l2i, 1) := dk_136 (dk_at dksJ18_numberOfTrailingZeros_0 1 rfl rfl)
theorem dJ18_numberOfTrailingZeros_2 : decode cJ18_numberOfTrailingZeros 2 = .ok (.istore_n 2, 1) := dk_61 (dk_at dksJ18_numberOfTrailingZeros_0 2 rfl rfl)
theorem dJ18_numberOfTrailingZeros_3 : decode cJ18_numberOfTrailingZeros 3 = .ok (.iload_n 2, 1) := dk_28 (dk_at dksJ18_numberOfTrailingZeros_0 3 rfl rfl)
theorem dJ18_numberOfTrailingZeros_4 : decode cJ18_numberOfTrailingZeros 4 = .ok (.ifCond .ne 17, 3) := dk_154 0 17 (dk_at dksJ18_numberOfTrailingZeros_0 4 rfl rfl)
theorem dJ18_numberOfTrailingZeros_7 : decode cJ18_numberOfTrailingZeros 7 = .ok (.bipush 32, 2) := dk_16 32 (dk_at dksJ18_numberOfTrailingZeros_0 7 rfl rfl)
theorem dJ18_numberOfTrailingZeros_9 : decode cJ18_numberOfTrailingZeros 9 = .ok (.lload_n 0, 1) := dk_30 (dk_at dksJ18_numberOfTrailingZeros_0 9 rfl rfl)
theorem dJ18_numberOfTrailingZeros_10 : decode cJ18_numberOfTrailingZeros 10 = .ok (.bipush 32, 2) := dk_16 32 (dk_at dksJ18_numberOfTrailingZeros_0 10 rfl rfl)
theorem dJ18_numberOfTrailingZeros_12 : decode cJ18_numberOfTrailingZeros 12 = .ok (.lushr, 1) := dk_125 (dk_at dksJ18_numberOfTrailingZeros_0 12 rfl rfl)
theorem dJ18_numberOfTrailingZeros_13 : decode cJ18_numberOfTrailingZeros 13 = .ok (.l2i, 1) := dk_136 (dk_at dksJ18_numberOfTrailingZeros_0 13 rfl rfl)
theorem dJ18_numberOfTrailingZeros_14 : decode cJ18_numberOfTrailingZeros 14 = .ok (.invokestatic 311, 3) := dk_184 1 55 (dk_at dksJ18_numberOfTrailingZeros_0 14 rfl rfl)
theorem dJ18_numberOfTrailingZeros_17 : decode cJ18_numberOfTrailingZeros 17 = .ok (.iadd, 1) := dk_96 (dk_at dksJ18_numberOfTrailingZeros_0 17 rfl rfl)
theorem dJ18_numberOfTrailingZeros_18 : decode cJ18_numberOfTrailingZeros 18 = .ok (.goto 7, 3) := dk_167 0 7 (dk_at dksJ18_numberOfTrailingZeros_0 18 rfl rfl)
theorem dJ18_numberOfTrailingZeros_21 : decode cJ18_numberOfTrailingZeros 21 = .ok (.iload_n 2, 1) := dk_28 (dk_at dksJ18_numberOfTrailingZeros_0 21 rfl rfl)
theorem dJ18_numberOfTrailingZeros_22 : decode cJ18_numberOfTrailingZeros 22 = .ok (.invokestatic 311, 3) := dk_184 1 55 (dk_at dksJ18_numberOfTrailingZeros_1 0 rfl rfl)
theorem dJ18_numberOfTrailingZeros_25 : decode cJ18_numberOfTrailingZeros 25 = .ok (.ireturn, 1) := dk_172 (dk_at dksJ18_numberOfTrailingZeros_1 3 rfl rfl)
abbrev cJ18_bitCount : ByteArray := prog_37_method_50_code
def yJ18_bitCount : MethodName := ⟨RJ18, "bitCount", "(J)I"⟩
def dkwJ18_bitCount_2 : List UInt8 := [30, 30, 16, 32, 125, 97, 63, 30, 136, 16, 127, 126, 172]
abbrev dktJ18_bitCount_2 : List UInt8 := dkwJ18_bitCount_2 ++ []
def dkwJ18_bitCount_1 : List UInt8 := [30, 30, 7, 125, 97, 20, 1, 62, 127, 63, 30, 30, 16, 8, 125, 97, 63, 30, 30, 16, 16, 125, 97, 63]
abbrev dktJ18_bitCount_1 : List UInt8 := dkwJ18_bitCount_1 ++ dktJ18_bitCount_2
def dkwJ18_bitCount_0 : List UInt8 := [30, 30, 4, 125, 20, 1, 58, 127, 101, 63, 30, 20, 1, 60, 127, 30, 5, 125, 20, 1, 60, 127, 97, 63]
abbrev dktJ18_bitCount_0 : List UInt8 := dkwJ18_bitCount_0 ++ dktJ18_bitCount_1
theorem dksJ18_bitCount_0 : cJ18_bitCount.data.toList.drop 0 = dktJ18_bitCount_0 := by decide +kernel
theorem dksJ18_bitCount_1 : cJ18_bitCount.data.toList.drop 24 = dktJ18_bitCount_1 := dk_seg dksJ18_bitCount_0 24 rfl rfl
theorem dksJ18_bitCount_2 : cJ18_bitCount.data.toList.drop 48 = dktJ18_bitCount_2 := dk_seg dksJ18_bitCount_1 24 rfl rfl
theorem dJ18_bitCount_0 : decode cJ18_bitCount 0 = .ok (.lload_n 0, 1) := dk_30 (dk_at dksJ18_bitCount_0 0 rfl rfl)
theorem dJ18_bitCount_1 : decode cJ18_bitCount 1 = .ok (.lload_n 0, 1) := dk_30 (dk_at dksJ18_bitCount_0 1 rfl rfl)
theorem dJ18_bitCount_2 : decode cJ18_bitCount 2 = .ok (.iconst 1, 1) := dk_4 (dk_at dksJ18_bitCount_0 2 rfl rfl)
theorem dJ18_bitCount_3 : decode cJ18_bitCount 3 = .ok (.lushr, 1) := dk_125 (dk_at dksJ18_bitCount_0 3 rfl rfl)
theorem dJ18_bitCount_4 : decode cJ18_bitCount 4 = .ok (.ldc2_w 314, 3) := dk_20 1 58 (dk_at dksJ18_bitCount_0 4 rfl rfl)
theorem dJ18_bitCount_7 : decode cJ18_bitCount 7 = .ok (.land, 1) := dk_127 (dk_at dksJ18_bitCount_0 7 rfl rfl)
theorem dJ18_bitCount_8 : decode cJ18_bitCount 8 = .ok (.lsub, 1) := dk_101 (dk_at dksJ18_bitCount_0 8 rfl rfl)
theorem dJ18_bitCount_9 : decode cJ18_bitCount 9 = .ok (.lstore_n 0, 1) := dk_63 (dk_at dksJ18_bitCount_0 9 rfl rfl)
theorem dJ18_bitCount_10 : decode cJ18_bitCount 10 = .ok (.lload_n 0, 1) := dk_30 (dk_at dksJ18_bitCount_0 10 rfl rfl)
theorem dJ18_bitCount_11 : decode cJ18_bitCount 11 = .ok (.ldc2_w 316, 3) := dk_20 1 60 (dk_at dksJ18_bitCount_0 11 rfl rfl)
theorem dJ18_bitCount_14 : decode cJ18_bitCount 14 = .ok (.land, 1) := dk_127 (dk_at dksJ18_bitCount_0 14 rfl rfl)
theorem dJ18_bitCount_15 : decode cJ18_bitCount 15 = .ok (.lload_n 0, 1) := dk_30 (dk_at dksJ18_bitCount_0 15 rfl rfl)
theorem dJ18_bitCount_16 : decode cJ18_bitCount 16 = .ok (.iconst 2, 1) := dk_5 (dk_at dksJ18_bitCount_0 16 rfl rfl)
theorem dJ18_bitCount_17 : decode cJ18_bitCount 17 = .ok (.lushr, 1) := dk_125 (dk_at dksJ18_bitCount_0 17 rfl rfl)
theorem dJ18_bitCount_18 : decode cJ18_bitCount 18 = .ok (.ldc2_w 316, 3) := dk_20 1 60 (dk_at dksJ18_bitCount_0 18 rfl rfl)
theorem dJ18_bitCount_21 : decode cJ18_bitCount 21 = .ok (.land, 1) := dk_127 (dk_at dksJ18_bitCount_0 21 rfl rfl)
theorem dJ18_bitCount_22 : decode cJ18_bitCount 22 = .ok (.ladd, 1) := dk_97 (dk_at dksJ18_bitCount_0 22 rfl rfl)
theorem dJ18_bitCount_23 : decode cJ18_bitCount 23 = .ok (.lstore_n 0, 1) := dk_63 (dk_at dksJ18_bitCount_0 23 rfl rfl)
theorem dJ18_bitCount_24 : decode cJ18_bitCount 24 = .ok (.lload_n 0, 1) := dk_30 (dk_at dksJ18_bitCount_1 0 rfl rfl)
theorem dJ18_bitCount_25 : decode cJ18_bitCount 25 = .ok (.lload_n 0, 1) := dk_30 (dk_at dksJ18_bitCount_1 1 rfl rfl)
theorem dJ18_bitCount_26 : decode cJ18_bitCount 26 = .ok (.iconst 4, 1) := dk_7 (dk_at dksJ18_bitCount_1 2 rfl rfl)
theorem dJ18_bitCount_27 : decode cJ18_bitCount 27 = .ok (.lushr, 1) := dk_125 (dk_at dksJ18_bitCount_1 3 rfl rfl)
theorem dJ18_bitCount_28 : decode cJ18_bitCount 28 = .ok (.ladd, 1) := dk_97 (dk_at dksJ18_bitCount_1 4 rfl rfl)
theorem dJ18_bitCount_29 : decode cJ18_bitCount 29 = .ok (.ldc2_w 318, 3) := dk_20 1 62 (dk_at dksJ18_bitCount_1 5 rfl rfl)
theorem dJ18_bitCount_32 : decode cJ18_bitCount 32 = .ok (.land, 1) := dk_127 (dk_at dksJ18_bitCount_1 8 rfl rfl)
theorem dJ18_bitCount_33 : decode cJ18_bitCount 33 = .ok (.lstore_n 0, 1) := dk_63 (dk_at dksJ18_bitCount_1 9 rfl rfl)
theorem dJ18_bitCount_34 : decode cJ18_bitCount 34 = .ok (.lload_n 0, 1) := dk_30 (dk_at dksJ18_bitCount_1 10 rfl rfl)
theorem dJ18_bitCount_35 : decode cJ18_bitCount 35 = .ok (.lload_n 0, 1) := dk_30 (dk_at dksJ18_bitCount_1 11 rfl rfl)
theorem dJ18_bitCount_36 : decode cJ18_bitCount 36 = .ok (.bipush 8, 2) := dk_16 8 (dk_at dksJ18_bitCount_1 12 rfl rfl)
theorem dJ18_bitCount_38 : decode cJ18_bitCount 38 = .ok (.lushr, 1) := dk_125 (dk_at dksJ18_bitCount_1 14 rfl rfl)
theorem dJ18_bitCount_39 : decode cJ18_bitCount 39 = .ok (.ladd, 1) := dk_97 (dk_at dksJ18_bitCount_1 15 rfl rfl)
theorem dJ18_bitCount_40 : decode cJ18_bitCount 40 = .ok (.lstore_n 0, 1) := dk_63 (dk_at dksJ18_bitCount_1 16 rfl rfl)
theorem dJ18_bitCount_41 : decode cJ18_bitCount 41 = .ok (.lload_n 0, 1) := dk_30 (dk_at dksJ18_bitCount_1 17 rfl rfl)
theorem dJ18_bitCount_42 : decode cJ18_bitCount 42 = .ok (.lload_n 0, 1) := dk_30 (dk_at dksJ18_bitCount_1 18 rfl rfl)
theorem dJ18_bitCount_43 : decode cJ18_bitCount 43 = .ok (.bipush 16, 2) := dk_16 16 (dk_at dksJ18_bitCount_1 19 rfl rfl)
theorem dJ18_bitCount_45 : decode cJ18_bitCount 45 = .ok (.lushr, 1) := dk_125 (dk_at dksJ18_bitCount_1 21 rfl rfl)
theorem dJ18_bitCount_46 : decode cJ18_bitCount 46 = .ok (.ladd, 1) := dk_97 (dk_at dksJ18_bitCount_1 22 rfl rfl)
theorem dJ18_bitCount_47 : decode cJ18_bitCount 47 = .ok (.lstore_n 0, 1) := dk_63 (dk_at dksJ18_bitCount_1 23 rfl rfl)
theorem dJ18_bitCount_48 : decode cJ18_bitCount 48 = .ok (.lload_n 0, 1) := dk_30 (dk_at dksJ18_bitCount_2 0 rfl rfl)
theorem dJ18_bitCount_49 : decode cJ18_bitCount 49 = .ok (.lload_n 0, 1) := dk_30 (dk_at dksJ18_bitCount_2 1 rfl rfl)
theorem dJ18_bitCount_50 : decode cJ18_bitCount 50 = .ok (.bipush 32, 2) := dk_16 32 (dk_at dksJ18_bitCount_2 2 rfl rfl)
theorem dJ18_bitCount_52 : decode cJ18_bitCount 52 = .ok (.lushr, 1) := dk_125 (dk_at dksJ18_bitCount_2 4 rfl rfl)
theorem dJ18_bitCount_53 : decode cJ18_bitCount 53 = .ok (.ladd, 1) := dk_97 (dk_at dksJ18_bitCount_2 5 rfl rfl)
theorem dJ18_bitCount_54 : decode cJ18_bitCount 54 = .ok (.lstore_n 0, 1) := dk_63 (dk_at dksJ18_bitCount_2 6 rfl rfl)
theorem dJ18_bitCount_55 : decode cJ18_bitCount 55 = .ok (.lload_n 0, 1) := dk_30 (dk_at dksJ18_bitCount_2 7 rfl rfl)
theorem dJ18_bitCount_56 : decode cJ18_bitCount 56 = .ok (.l2i, 1) := dk_136 (dk_at dksJ18_bitCount_2 8 rfl rfl)
theorem dJ18_bitCount_57 : decode cJ18_bitCount 57 = .ok (.bipush 127, 2) := dk_16 127 (dk_at dksJ18_bitCount_2 9 rfl rfl)
theorem dJ18_bitCount_59 : decode cJ18_bitCount 59 = .ok (.iand, 1) := dk_126 (dk_at dksJ18_bitCount_2 11 rfl rfl)
theorem dJ18_bitCount_60 : decode cJ18_bitCount 60 = .ok (.ireturn, 1) := dk_172 (dk_at dksJ18_bitCount_2 12 rfl rfl)
theorem q163 : (Jvm.Cond.initialized "java/lang/Long") ∈ lw_all := lw_g (lw_at lw_m1 38 rfl) rfl
theorem q1202 : (Jvm.Cond.static ({ cls := "java/lang/Long", name := "numberOfLeadingZeros", desc := "(J)I" } : Jvm.MethodName)) ∈ lw_all := lw_g (lw_at lw_m5 117 rfl) rfl
theorem q1203 : (Jvm.Cond.code ({ cls := "java/lang/Long", name := "numberOfLeadingZeros", desc := "(J)I" } : Jvm.MethodName) prog_37_method_48_code (3 : Nat) (Option.some Jvm.ClassFile.FieldType.int)) ∈ lw_all := lw_g (lw_at lw_m5 118 rfl) rfl
theorem q1204 : (Jvm.Cond.methodLink "java/lang/Long" (308 : Nat) ({ cls := "java/lang/Integer", name := "numberOfLeadingZeros", desc := "(I)I" } : Jvm.MethodName)) ∈ lw_all := lw_g (lw_at lw_m5 119 rfl) rfl
theorem q1211 : (Jvm.Cond.static ({ cls := "java/lang/Long", name := "numberOfTrailingZeros", desc := "(J)I" } : Jvm.MethodName)) ∈ lw_all := lw_g (lw_at lw_m5 126 rfl) rfl
theorem q1212 : (Jvm.Cond.code ({ cls := "java/lang/Long", name := "numberOfTrailingZeros", desc := "(J)I" } : Jvm.MethodName) prog_37_method_49_code (3 : Nat) (Option.some Jvm.ClassFile.FieldType.int)) ∈ lw_all := lw_g (lw_at lw_m5 127 rfl) rfl
theorem q1213 : (Jvm.Cond.methodLink "java/lang/Long" (311 : Nat) ({ cls := "java/lang/Integer", name := "numberOfTrailingZeros", desc := "(I)I" } : Jvm.MethodName)) ∈ lw_all := lw_g (lw_at lw_m5 128 rfl) rfl
theorem q1936 : (Jvm.Cond.static ({ cls := "java/lang/Long", name := "bitCount", desc := "(J)I" } : Jvm.MethodName)) ∈ lw_all := lw_g (lw_at lw_m8 131 rfl) rfl
theorem q1937 : (Jvm.Cond.code ({ cls := "java/lang/Long", name := "bitCount", desc := "(J)I" } : Jvm.MethodName) prog_37_method_50_code (2 : Nat) (Option.some Jvm.ClassFile.FieldType.int)) ∈ lw_all := lw_g (lw_at lw_m8 132 rfl) rfl
theorem q1938 : (Jvm.Cond.constantLong "java/lang/Long" (314 : Nat) (6148914691236517205 : Int64)) ∈ lw_all := lw_g (lw_at lw_m8 133 rfl) rfl
theorem q1939 : (Jvm.Cond.constantLong "java/lang/Long" (316 : Nat) (3689348814741910323 : Int64)) ∈ lw_all := lw_g (lw_at lw_m8 134 rfl) rfl
theorem q1940 : (Jvm.Cond.constantLong "java/lang/Long" (318 : Nat) (1085102592571150095 : Int64)) ∈ lw_all := lw_g (lw_at lw_m8 135 rfl) rfl

/-! java/lang/Integer -/
set_option maxRecDepth 100000
def RJ19 : String := "java/lang/Integer"
def TJ19 : u_T := fun k => match k with
  | _ => ("java/lang/Integer", "value", "I", true)
def tyJ19 : Nat → FieldType := fun k => match k with
  | _ => .int
abbrev wsJ190 : List Cond := u_ws RJ19 TJ19 1
theorem nmJ19 : ∀ a, a < 1 → ∀ b, b < 1 → a ≠ b → (TJ19 a).2.1 ≠ (TJ19 b).2.1 := by decide +kernel
theorem tyJ19_ok : ∀ k, k < 1 → parseFieldDescriptor (TJ19 k).2.2.1 = some (tyJ19 k) := by decide +kernel
abbrev cJ19_numberOfLeadingZeros : ByteArray := prog_34_method_47_code
def yJ19_numberOfLeadingZeros : MethodName := ⟨RJ19, "numberOfLeadingZeros", "(I)I"⟩
def dkwJ19_numberOfLeadingZeros_3 : List UInt8 := [5, 124, 59, 27, 26, 4, 124, 100, 172]
abbrev dktJ19_numberOfLeadingZeros_3 : List UInt8 := dkwJ19_numberOfLeadingZeros_3 ++ []
def dkwJ19_numberOfLeadingZeros_2 : List UInt8 := [124, 59, 26, 16, 16, 161, 0, 10, 132, 1, 252, 26, 7, 124, 59, 26, 7, 161, 0, 10, 132, 1, 254, 26]
abbrev dktJ19_numberOfLeadingZeros_2 : List UInt8 := dkwJ19_numberOfLeadingZeros_2 ++ dktJ19_numberOfLeadingZeros_3
def dkwJ19_numberOfLeadingZeros_1 : List UInt8 := [161, 0, 11, 132, 1, 240, 26, 16, 16, 124, 59, 26, 17, 1, 0, 161, 0, 11, 132, 1, 248, 26, 16, 8]
abbrev dktJ19_numberOfLeadingZeros_1 : List UInt8 := dkwJ19_numberOfLeadingZeros_1 ++ dktJ19_numberOfLeadingZeros_2
def dkwJ19_numberOfLeadingZeros_0 : List UInt8 := [26, 157, 0, 14, 26, 154, 0, 8, 16, 32, 167, 0, 4, 3, 172, 16, 31, 60, 26, 19, 1, 8]
abbrev dktJ19_numberOfLeadingZeros_0 : List UInt8 := dkwJ19_numberOfLeadingZeros_0 ++ dktJ19_numberOfLeadingZeros_1
theorem dksJ19_numberOfLeadingZeros_0 : cJ19_numberOfLeadingZeros.data.toList.drop 0 = dktJ19_numberOfLeadingZeros_0 := by decide +kernel
theorem dksJ19_numberOfLeadingZeros_1 : cJ19_numberOfLeadingZeros.data.toList.drop 22 = dktJ19_numberOfLeadingZeros_1 := dk_seg dksJ19_numberOfLeadingZeros_0 22 rfl rfl
theorem dksJ19_numberOfLeadingZeros_2 : cJ19_numberOfLeadingZeros.data.toList.drop 46 = dktJ19_numberOfLeadingZeros_2 := dk_seg dksJ19_numberOfLeadingZeros_1 24 rfl rfl
theorem dksJ19_numberOfLeadingZeros_3 : cJ19_numberOfLeadingZeros.data.toList.drop 70 = dktJ19_numberOfLeadingZeros_3 := dk_seg dksJ19_numberOfLeadingZeros_2 24 rfl rfl
theorem dJ19_numberOfLeadingZeros_0 : decode cJ19_numberOfLeadingZeros 0 = .ok (.iload_n 0, 1) := dk_26 (dk_at dksJ19_numberOfLeadingZeros_0 0 rfl rfl)
theorem dJ19_numberOfLeadingZeros_1 : decode cJ19_numberOfLeadingZeros 1 = .ok (.ifCond .gt 14, 3) := dk_157 0 14 (dk_at dksJ19_numberOfLeadingZeros_0 1 rfl rfl)
theorem dJ19_numberOfLeadingZeros_4 : decode cJ19_numberOfLeadingZeros 4 = .ok (.iload_n 0, 1) := dk_26 (dk_at dksJ19_numberOfLeadingZeros_0 4 rfl rfl)
theorem dJ19_numberOfLeadingZeros_5 : decode cJ19_numberOfLeadingZeros 5 = .ok (.ifCond .ne 8, 3) := dk_154 0 8 (dk_at dksJ19_numberOfLeadingZeros_0 5 rfl rfl)
theorem dJ19_numberOfLeadingZeros_8 : decode cJ19_numberOfLeadingZeros 8 = .ok (.bipush 32, 2) := dk_16 32 (dk_at dksJ19_numberOfLeadingZeros_0 8 rfl rfl)
theorem dJ19_numberOfLeadingZeros_10 : decode cJ19_numberOfLeadingZeros 10 = .ok (.goto 4, 3) := dk_167 0 4 (dk_at dksJ19_numberOfLeadingZeros_0 10 rfl rfl)
theorem dJ19_numberOfLeadingZeros_13 : decode cJ19_numberOfLeadingZeros 13 = .ok (.iconst 0, 1) := dk_3 (dk_at dksJ19_numberOfLeadingZeros_0 13 rfl rfl)
theorem dJ19_numberOfLeadingZeros_14 : decode cJ19_numberOfLeadingZeros 14 = .ok (.ireturn, 1) := dk_172 (dk_at dksJ19_numberOfLeadingZeros_0 14 rfl rfl)
theorem dJ19_numberOfLeadingZeros_15 : decode cJ19_numberOfLeadingZeros 15 = .ok (.bipush 31, 2) := dk_16 31 (dk_at dksJ19_numberOfLeadingZeros_0 15 rfl rfl)
theorem dJ19_numberOfLeadingZeros_17 : decode cJ19_numberOfLeadingZeros 17 = .ok (.istore_n 1, 1) := dk_60 (dk_at dksJ19_numberOfLeadingZeros_0 17 rfl rfl)
theorem dJ19_numberOfLeadingZeros_18 : decode cJ19_numberOfLeadingZeros 18 = .ok (.iload_n 0, 1) := dk_26 (dk_at dksJ19_numberOfLeadingZeros_0 18 rfl rfl)
theorem dJ19_numberOfLeadingZeros_19 : decode cJ19_numberOfLeadingZeros 19 = .ok (.ldc_w 264, 3) := dk_19 1 8 (dk_at dksJ19_numberOfLeadingZeros_0 19 rfl rfl)
theorem dJ19_numberOfLeadingZeros_22 : decode cJ19_numberOfLeadingZeros 22 = .ok (.if_icmp .lt 11, 3) := dk_161 0 11 (dk_at dksJ19_numberOfLeadingZeros_1 0 rfl rfl)
theorem dJ19_numberOfLeadingZeros_25 : decode cJ19_numberOfLeadingZeros 25 = .ok (.iinc 1 (-16), 3) := dk_132 1 240 (dk_at dksJ19_numberOfLeadingZeros_1 3 rfl rfl)
theorem dJ19_numberOfLeadingZeros_28 : decode cJ19_numberOfLeadingZeros 28 = .ok (.iload_n 0, 1) := dk_26 (dk_at dksJ19_numberOfLeadingZeros_1 6 rfl rfl)
theorem dJ19_numberOfLeadingZeros_29 : decode cJ19_numberOfLeadingZeros 29 = .ok (.bipush 16, 2) := dk_16 16 (dk_at dksJ19_numberOfLeadingZeros_1 7 rfl rfl)
theorem dJ19_numberOfLeadingZeros_31 : decode cJ19_numberOfLeadingZeros 31 = .ok (.iushr, 1) := dk_124 (dk_at dksJ19_numberOfLeadingZeros_1 9 rfl rfl)
theorem dJ19_numberOfLeadingZeros_32 : decode cJ19_numberOfLeadingZeros 32 = .ok (.istore_n 0, 1) := dk_59 (dk_at dksJ19_numberOfLeadingZeros_1 10 rfl rfl)
theorem dJ19_numberOfLeadingZeros_33 : decode cJ19_numberOfLeadingZeros 33 = .ok (.iload_n 0, 1) := dk_26 (dk_at dksJ19_numberOfLeadingZeros_1 11 rfl rfl)
theorem dJ19_numberOfLeadingZeros_34 : decode cJ19_numberOfLeadingZeros 34 = .ok (.sipush 256, 3) := dk_17 1 0 (dk_at dksJ19_numberOfLeadingZeros_1 12 rfl rfl)
theorem dJ19_numberOfLeadingZeros_37 : decode cJ19_numberOfLeadingZeros 37 = .ok (.if_icmp .lt 11, 3) := dk_161 0 11 (dk_at dksJ19_numberOfLeadingZeros_1 15 rfl rfl)
theorem dJ19_numberOfLeadingZeros_40 : decode cJ19_numberOfLeadingZeros 40 = .ok (.iinc 1 (-8), 3) := dk_132 1 248 (dk_at dksJ19_numberOfLeadingZeros_1 18 rfl rfl)
theorem dJ19_numberOfLeadingZeros_43 : decode cJ19_numberOfLeadingZeros 43 = .ok (.iload_n 0, 1) := dk_26 (dk_at dksJ19_numberOfLeadingZeros_1 21 rfl rfl)
theorem dJ19_numberOfLeadingZeros_44 : decode cJ19_numberOfLeadingZeros 44 = .ok (.bipush 8, 2) := dk_16 8 (dk_at dksJ19_numberOfLeadingZeros_1 22 rfl rfl)
theorem dJ19_numberOfLeadingZeros_46 : decode cJ19_numberOfLeadingZeros 46 = .ok (.iushr, 1) := dk_124 (dk_at dksJ19_numberOfLeadingZeros_2 0 rfl rfl)
theorem dJ19_numberOfLeadingZeros_47 : decode cJ19_numberOfLeadingZeros 47 = .ok (.istore_n 0, 1) := dk_59 (dk_at dksJ19_numberOfLeadingZeros_2 1 rfl rfl)
theorem dJ19_numberOfLeadingZeros_48 : decode cJ19_numberOfLeadingZeros 48 = .ok (.iload_n 0, 1) := dk_26 (dk_at dksJ19_numberOfLeadingZeros_2 2 rfl rfl)
theorem dJ19_numberOfLeadingZeros_49 : decode cJ19_numberOfLeadingZeros 49 = .ok (.bipush 16, 2) := dk_16 16 (dk_at dksJ19_numberOfLeadingZeros_2 3 rfl rfl)
theorem dJ19_numberOfLeadingZeros_51 : decode cJ19_numberOfLeadingZeros 51 = .ok (.if_icmp .lt 10, 3) := dk_161 0 10 (dk_at dksJ19_numberOfLeadingZeros_2 5 rfl rfl)
theorem dJ19_numberOfLeadingZeros_54 : decode cJ19_numberOfLeadingZeros 54 = .ok (.iinc 1 (-4), 3) := dk_132 1 252 (dk_at dksJ19_numberOfLeadingZeros_2 8 rfl rfl)
theorem dJ19_numberOfLeadingZeros_57 : decode cJ19_numberOfLeadingZeros 57 = .ok (.iload_n 0, 1) := dk_26 (dk_at dksJ19_numberOfLeadingZeros_2 11 rfl rfl)
theorem dJ19_numberOfLeadingZeros_58 : decode cJ19_numberOfLeadingZeros 58 = .ok (.iconst 4, 1) := dk_7 (dk_at dksJ19_numberOfLeadingZeros_2 12 rfl rfl)
theorem dJ19_numberOfLeadingZeros_59 : decode cJ19_numberOfLeadingZeros 59 = .ok (.iushr, 1) := dk_124 (dk_at dksJ19_numberOfLeadingZeros_2 13 rfl rfl)
theorem dJ19_numberOfLeadingZeros_60 : decode cJ19_numberOfLeadingZeros 60 = .ok (.istore_n 0, 1) := dk_59 (dk_at dksJ19_numberOfLeadingZeros_2 14 rfl rfl)
theorem dJ19_numberOfLeadingZeros_61 : decode cJ19_numberOfLeadingZeros 61 = .ok (.iload_n 0, 1) := dk_26 (dk_at dksJ19_numberOfLeadingZeros_2 15 rfl rfl)
theorem dJ19_numberOfLeadingZeros_62 : decode cJ19_numberOfLeadingZeros 62 = .ok (.iconst 4, 1) := dk_7 (dk_at dksJ19_numberOfLeadingZeros_2 16 rfl rfl)
theorem dJ19_numberOfLeadingZeros_63 : decode cJ19_numberOfLeadingZeros 63 = .ok (.if_icmp .lt 10, 3) := dk_161 0 10 (dk_at dksJ19_numberOfLeadingZeros_2 17 rfl rfl)
theorem dJ19_numberOfLeadingZeros_66 : decode cJ19_numberOfLeadingZeros 66 = .ok (.iinc 1 (-2), 3) := dk_132 1 254 (dk_at dksJ19_numberOfLeadingZeros_2 20 rfl rfl)
theorem dJ19_numberOfLeadingZeros_69 : decode cJ19_numberOfLeadingZeros 69 = .ok (.iload_n 0, 1) := dk_26 (dk_at dksJ19_numberOfLeadingZeros_2 23 rfl rfl)
theorem dJ19_numberOfLeadingZeros_70 : decode cJ19_numberOfLeadingZeros 70 = .ok (.iconst 2, 1) := dk_5 (dk_at dksJ19_numberOfLeadingZeros_3 0 rfl rfl)
theorem dJ19_numberOfLeadingZeros_71 : decode cJ19_numberOfLeadingZeros 71 = .ok (.iushr, 1) := dk_124 (dk_at dksJ19_numberOfLeadingZeros_3 1 rfl rfl)
theorem dJ19_numberOfLeadingZeros_72 : decode cJ19_numberOfLeadingZeros 72 = .ok (.istore_n 0, 1) := dk_59 (dk_at dksJ19_numberOfLeadingZeros_3 2 rfl rfl)
theorem dJ19_numberOfLeadingZeros_73 : decode cJ19_numberOfLeadingZeros 73 = .ok (.iload_n 1, 1) := dk_27 (dk_at dksJ19_numberOfLeadingZeros_3 3 rfl rfl)
theorem dJ19_numberOfLeadingZeros_74 : decode cJ19_numberOfLeadingZeros 74 = .ok (.iload_n 0, 1) := dk_26 (dk_at dksJ19_numberOfLeadingZeros_3 4 rfl rfl)
theorem dJ19_numberOfLeadingZeros_75 : decode cJ19_numberOfLeadingZeros 75 = .ok (.iconst 1, 1) := dk_4 (dk_at dksJ19_numberOfLeadingZeros_3 5 rfl rfl)
theorem dJ19_numberOfLeadingZeros_76 : decode cJ19_numberOfLeadingZeros 76 = .ok (.iushr, 1) := dk_124 (dk_at dksJ19_numberOfLeadingZeros_3 6 rfl rfl)
theorem dJ19_numberOfLeadingZeros_77 : decode cJ19_numberOfLeadingZeros 77 = .ok (.isub, 1) := dk_100 (dk_at dksJ19_numberOfLeadingZeros_3 7 rfl rfl)
theorem dJ19_numberOfLeadingZeros_78 : decode cJ19_numberOfLeadingZeros 78 = .ok (.ireturn, 1) := dk_172 (dk_at dksJ19_numberOfLeadingZeros_3 8 rfl rfl)
abbrev cJ19_numberOfTrailingZeros : ByteArray := prog_34_method_48_code
def yJ19_numberOfTrailingZeros : MethodName := ⟨RJ19, "numberOfTrailingZeros", "(I)I"⟩
def dkwJ19_numberOfTrailingZeros_3 : List UInt8 := [5, 124, 59, 27, 26, 4, 124, 96, 172]
abbrev dktJ19_numberOfTrailingZeros_3 : List UInt8 := dkwJ19_numberOfTrailingZeros_3 ++ []
def dkwJ19_numberOfTrailingZeros_2 : List UInt8 := [124, 59, 26, 16, 16, 164, 0, 10, 132, 1, 4, 26, 7, 124, 59, 26, 7, 164, 0, 10, 132, 1, 2, 26]
abbrev dktJ19_numberOfTrailingZeros_2 : List UInt8 := dkwJ19_numberOfTrailingZeros_2 ++ dktJ19_numberOfTrailingZeros_3
def dkwJ19_numberOfTrailingZeros_1 : List UInt8 := [164, 0, 11, 132, 1, 16, 26, 16, 16, 124, 59, 26, 17, 1, 0, 164, 0, 11, 132, 1, 8, 26, 16, 8]
abbrev dktJ19_numberOfTrailingZeros_1 : List UInt8 := dkwJ19_numberOfTrailingZeros_1 ++ dktJ19_numberOfTrailingZeros_2
def dkwJ19_numberOfTrailingZeros_0 : List UInt8 := [26, 2, 130, 26, 4, 100, 126, 59, 26, 157, 0, 8, 26, 16, 32, 126, 172, 4, 60, 26, 19, 1, 8]
abbrev dktJ19_numberOfTrailingZeros_0 : List UInt8 := dkwJ19_numberOfTrailingZeros_0 ++ dktJ19_numberOfTrailingZeros_1
theorem dksJ19_numberOfTrailingZeros_0 : cJ19_numberOfTrailingZeros.data.toList.drop 0 = dktJ19_numberOfTrailingZeros_0 := by decide +kernel
theorem dksJ19_numberOfTrailingZeros_1 : cJ19_numberOfTrailingZeros.data.toList.drop 23 = dktJ19_numberOfTrailingZeros_1 := dk_seg dksJ19_numberOfTrailingZeros_0 23 rfl rfl
theorem dksJ19_numberOfTrailingZeros_2 : cJ19_numberOfTrailingZeros.data.toList.drop 47 = dktJ19_numberOfTrailingZeros_2 := dk_seg dksJ19_numberOfTrailingZeros_1 24 rfl rfl
theorem dksJ19_numberOfTrailingZeros_3 : cJ19_numberOfTrailingZeros.data.toList.drop 71 = dktJ19_numberOfTrailingZeros_3 := dk_seg dksJ19_numberOfTrailingZeros_2 24 rfl rfl
theorem dJ19_numberOfTrailingZeros_0 : decode cJ19_numberOfTrailingZeros 0 = .ok (.iload_n 0, 1) := dk_26 (dk_at dksJ19_numberOfTrailingZeros_0 0 rfl rfl)
theorem dJ19_numberOfTrailingZeros_1 : decode cJ19_numberOfTrailingZeros 1 = .ok (.iconst (-1), 1) := dk_2 (dk_at dksJ19_numberOfTrailingZeros_0 1 rfl rfl)
theorem dJ19_numberOfTrailingZeros_2 : decode cJ19_numberOfTrailingZeros 2 = .ok (.ixor, 1) := dk_130 (dk_at dksJ19_numberOfTrailingZeros_0 2 rfl rfl)
theorem dJ19_numberOfTrailingZeros_3 : decode cJ19_numberOfTrailingZeros 3 = .ok (.iload_n 0, 1) := dk_26 (dk_at dksJ19_numberOfTrailingZeros_0 3 rfl rfl)
theorem dJ19_numberOfTrailingZeros_4 : decode cJ19_numberOfTrailingZeros 4 = .ok (.iconst 1, 1) := dk_4 (dk_at dksJ19_numberOfTrailingZeros_0 4 rfl rfl)
theorem dJ19_numberOfTrailingZeros_5 : decode cJ19_numberOfTrailingZeros 5 = .ok (.isub, 1) := dk_100 (dk_at dksJ19_numberOfTrailingZeros_0 5 rfl rfl)
theorem dJ19_numberOfTrailingZeros_6 : decode cJ19_numberOfTrailingZeros 6 = .ok (.iand, 1) := dk_126 (dk_at dksJ19_numberOfTrailingZeros_0 6 rfl rfl)
theorem dJ19_numberOfTrailingZeros_7 : decode cJ19_numberOfTrailingZeros 7 = .ok (.istore_n 0, 1) := dk_59 (dk_at dksJ19_numberOfTrailingZeros_0 7 rfl rfl)
theorem dJ19_numberOfTrailingZeros_8 : decode cJ19_numberOfTrailingZeros 8 = .ok (.iload_n 0, 1) := dk_26 (dk_at dksJ19_numberOfTrailingZeros_0 8 rfl rfl)
theorem dJ19_numberOfTrailingZeros_9 : decode cJ19_numberOfTrailingZeros 9 = .ok (.ifCond .gt 8, 3) := dk_157 0 8 (dk_at dksJ19_numberOfTrailingZeros_0 9 rfl rfl)
theorem dJ19_numberOfTrailingZeros_12 : decode cJ19_numberOfTrailingZeros 12 = .ok (.iload_n 0, 1) := dk_26 (dk_at dksJ19_numberOfTrailingZeros_0 12 rfl rfl)
theorem dJ19_numberOfTrailingZeros_13 : decode cJ19_numberOfTrailingZeros 13 = .ok (.bipush 32, 2) := dk_16 32 (dk_at dksJ19_numberOfTrailingZeros_0 13 rfl rfl)
theorem dJ19_numberOfTrailingZeros_15 : decode cJ19_numberOfTrailingZeros 15 = .ok (.iand, 1) := dk_126 (dk_at dksJ19_numberOfTrailingZeros_0 15 rfl rfl)
theorem dJ19_numberOfTrailingZeros_16 : decode cJ19_numberOfTrailingZeros 16 = .ok (.ireturn, 1) := dk_172 (dk_at dksJ19_numberOfTrailingZeros_0 16 rfl rfl)
theorem dJ19_numberOfTrailingZeros_17 : decode cJ19_numberOfTrailingZeros 17 = .ok (.iconst 1, 1) := dk_4 (dk_at dksJ19_numberOfTrailingZeros_0 17 rfl rfl)
theorem dJ19_numberOfTrailingZeros_18 : decode cJ19_numberOfTrailingZeros 18 = .ok (.istore_n 1, 1) := dk_60 (dk_at dksJ19_numberOfTrailingZeros_0 18 rfl rfl)
theorem dJ19_numberOfTrailingZeros_19 : decode cJ19_numberOfTrailingZeros 19 = .ok (.iload_n 0, 1) := dk_26 (dk_at dksJ19_numberOfTrailingZeros_0 19 rfl rfl)
theorem dJ19_numberOfTrailingZeros_20 : decode cJ19_numberOfTrailingZeros 20 = .ok (.ldc_w 264, 3) := dk_19 1 8 (dk_at dksJ19_numberOfTrailingZeros_0 20 rfl rfl)
theorem dJ19_numberOfTrailingZeros_23 : decode cJ19_numberOfTrailingZeros 23 = .ok (.if_icmp .le 11, 3) := dk_164 0 11 (dk_at dksJ19_numberOfTrailingZeros_1 0 rfl rfl)
theorem dJ19_numberOfTrailingZeros_26 : decode cJ19_numberOfTrailingZeros 26 = .ok (.iinc 1 16, 3) := dk_132 1 16 (dk_at dksJ19_numberOfTrailingZeros_1 3 rfl rfl)
theorem dJ19_numberOfTrailingZeros_29 : decode cJ19_numberOfTrailingZeros 29 = .ok (.iload_n 0, 1) := dk_26 (dk_at dksJ19_numberOfTrailingZeros_1 6 rfl rfl)
theorem dJ19_numberOfTrailingZeros_30 : decode cJ19_numberOfTrailingZeros 30 = .ok (.bipush 16, 2) := dk_16 16 (dk_at dksJ19_numberOfTrailingZeros_1 7 rfl rfl)
theorem dJ19_numberOfTrailingZeros_32 : decode cJ19_numberOfTrailingZeros 32 = .ok (.iushr, 1) := dk_124 (dk_at dksJ19_numberOfTrailingZeros_1 9 rfl rfl)
theorem dJ19_numberOfTrailingZeros_33 : decode cJ19_numberOfTrailingZeros 33 = .ok (.istore_n 0, 1) := dk_59 (dk_at dksJ19_numberOfTrailingZeros_1 10 rfl rfl)
theorem dJ19_numberOfTrailingZeros_34 : decode cJ19_numberOfTrailingZeros 34 = .ok (.iload_n 0, 1) := dk_26 (dk_at dksJ19_numberOfTrailingZeros_1 11 rfl rfl)
theorem dJ19_numberOfTrailingZeros_35 : decode cJ19_numberOfTrailingZeros 35 = .ok (.sipush 256, 3) := dk_17 1 0 (dk_at dksJ19_numberOfTrailingZeros_1 12 rfl rfl)
theorem dJ19_numberOfTrailingZeros_38 : decode cJ19_numberOfTrailingZeros 38 = .ok (.if_icmp .le 11, 3) := dk_164 0 11 (dk_at dksJ19_numberOfTrailingZeros_1 15 rfl rfl)
theorem dJ19_numberOfTrailingZeros_41 : decode cJ19_numberOfTrailingZeros 41 = .ok (.iinc 1 8, 3) := dk_132 1 8 (dk_at dksJ19_numberOfTrailingZeros_1 18 rfl rfl)
theorem dJ19_numberOfTrailingZeros_44 : decode cJ19_numberOfTrailingZeros 44 = .ok (.iload_n 0, 1) := dk_26 (dk_at dksJ19_numberOfTrailingZeros_1 21 rfl rfl)
theorem dJ19_numberOfTrailingZeros_45 : decode cJ19_numberOfTrailingZeros 45 = .ok (.bipush 8, 2) := dk_16 8 (dk_at dksJ19_numberOfTrailingZeros_1 22 rfl rfl)
theorem dJ19_numberOfTrailingZeros_47 : decode cJ19_numberOfTrailingZeros 47 = .ok (.iushr, 1) := dk_124 (dk_at dksJ19_numberOfTrailingZeros_2 0 rfl rfl)
theorem dJ19_numberOfTrailingZeros_48 : decode cJ19_numberOfTrailingZeros 48 = .ok (.istore_n 0, 1) := dk_59 (dk_at dksJ19_numberOfTrailingZeros_2 1 rfl rfl)
theorem dJ19_numberOfTrailingZeros_49 : decode cJ19_numberOfTrailingZeros 49 = .ok (.iload_n 0, 1) := dk_26 (dk_at dksJ19_numberOfTrailingZeros_2 2 rfl rfl)
theorem dJ19_numberOfTrailingZeros_50 : decode cJ19_numberOfTrailingZeros 50 = .ok (.bipush 16, 2) := dk_16 16 (dk_at dksJ19_numberOfTrailingZeros_2 3 rfl rfl)
theorem dJ19_numberOfTrailingZeros_52 : decode cJ19_numberOfTrailingZeros 52 = .ok (.if_icmp .le 10, 3) := dk_164 0 10 (dk_at dksJ19_numberOfTrailingZeros_2 5 rfl rfl)
theorem dJ19_numberOfTrailingZeros_55 : decode cJ19_numberOfTrailingZeros 55 = .ok (.iinc 1 4, 3) := dk_132 1 4 (dk_at dksJ19_numberOfTrailingZeros_2 8 rfl rfl)
theorem dJ19_numberOfTrailingZeros_58 : decode cJ19_numberOfTrailingZeros 58 = .ok (.iload_n 0, 1) := dk_26 (dk_at dksJ19_numberOfTrailingZeros_2 11 rfl rfl)
theorem dJ19_numberOfTrailingZeros_59 : decode cJ19_numberOfTrailingZeros 59 = .ok (.iconst 4, 1) := dk_7 (dk_at dksJ19_numberOfTrailingZeros_2 12 rfl rfl)
theorem dJ19_numberOfTrailingZeros_60 : decode cJ19_numberOfTrailingZeros 60 = .ok (.iushr, 1) := dk_124 (dk_at dksJ19_numberOfTrailingZeros_2 13 rfl rfl)
theorem dJ19_numberOfTrailingZeros_61 : decode cJ19_numberOfTrailingZeros 61 = .ok (.istore_n 0, 1) := dk_59 (dk_at dksJ19_numberOfTrailingZeros_2 14 rfl rfl)
theorem dJ19_numberOfTrailingZeros_62 : decode cJ19_numberOfTrailingZeros 62 = .ok (.iload_n 0, 1) := dk_26 (dk_at dksJ19_numberOfTrailingZeros_2 15 rfl rfl)
theorem dJ19_numberOfTrailingZeros_63 : decode cJ19_numberOfTrailingZeros 63 = .ok (.iconst 4, 1) := dk_7 (dk_at dksJ19_numberOfTrailingZeros_2 16 rfl rfl)
theorem dJ19_numberOfTrailingZeros_64 : decode cJ19_numberOfTrailingZeros 64 = .ok (.if_icmp .le 10, 3) := dk_164 0 10 (dk_at dksJ19_numberOfTrailingZeros_2 17 rfl rfl)
theorem dJ19_numberOfTrailingZeros_67 : decode cJ19_numberOfTrailingZeros 67 = .ok (.iinc 1 2, 3) := dk_132 1 2 (dk_at dksJ19_numberOfTrailingZeros_2 20 rfl rfl)
theorem dJ19_numberOfTrailingZeros_70 : decode cJ19_numberOfTrailingZeros 70 = .ok (.iload_n 0, 1) := dk_26 (dk_at dksJ19_numberOfTrailingZeros_2 23 rfl rfl)
theorem dJ19_numberOfTrailingZeros_71 : decode cJ19_numberOfTrailingZeros 71 = .ok (.iconst 2, 1) := dk_5 (dk_at dksJ19_numberOfTrailingZeros_3 0 rfl rfl)
theorem dJ19_numberOfTrailingZeros_72 : decode cJ19_numberOfTrailingZeros 72 = .ok (.iushr, 1) := dk_124 (dk_at dksJ19_numberOfTrailingZeros_3 1 rfl rfl)
theorem dJ19_numberOfTrailingZeros_73 : decode cJ19_numberOfTrailingZeros 73 = .ok (.istore_n 0, 1) := dk_59 (dk_at dksJ19_numberOfTrailingZeros_3 2 rfl rfl)
theorem dJ19_numberOfTrailingZeros_74 : decode cJ19_numberOfTrailingZeros 74 = .ok (.iload_n 1, 1) := dk_27 (dk_at dksJ19_numberOfTrailingZeros_3 3 rfl rfl)
theorem dJ19_numberOfTrailingZeros_75 : decode cJ19_numberOfTrailingZeros 75 = .ok (.iload_n 0, 1) := dk_26 (dk_at dksJ19_numberOfTrailingZeros_3 4 rfl rfl)
theorem dJ19_numberOfTrailingZeros_76 : decode cJ19_numberOfTrailingZeros 76 = .ok (.iconst 1, 1) := dk_4 (dk_at dksJ19_numberOfTrailingZeros_3 5 rfl rfl)
theorem dJ19_numberOfTrailingZeros_77 : decode cJ19_numberOfTrailingZeros 77 = .ok (.iushr, 1) := dk_124 (dk_at dksJ19_numberOfTrailingZeros_3 6 rfl rfl)
theorem dJ19_numberOfTrailingZeros_78 : decode cJ19_numberOfTrailingZeros 78 = .ok (.iadd, 1) := dk_96 (dk_at dksJ19_numberOfTrailingZeros_3 7 rfl rfl)
theorem dJ19_numberOfTrailingZeros_79 : decode cJ19_numberOfTrailingZeros 79 = .ok (.ireturn, 1) := dk_172 (dk_at dksJ19_numberOfTrailingZeros_3 8 rfl rfl)
abbrev cJ19_valueOf : ByteArray := prog_34_method_22_code
def yJ19_valueOf : MethodName := ⟨RJ19, "valueOf", "(I)Ljava/lang/Integer;"⟩
def dkwJ19_valueOf_1 : List UInt8 := [187, 0, 1, 89, 26, 183, 0, 199, 176]
abbrev dktJ19_valueOf_1 : List UInt8 := dkwJ19_valueOf_1 ++ []
def dkwJ19_valueOf_0 : List UInt8 := [26, 16, 128, 161, 0, 20, 26, 178, 0, 191, 163, 0, 13, 178, 0, 195, 26, 17, 0, 128, 96, 50, 176]
abbrev dktJ19_valueOf_0 : List UInt8 := dkwJ19_valueOf_0 ++ dktJ19_valueOf_1
theorem dksJ19_valueOf_0 : cJ19_valueOf.data.toList.drop 0 = dktJ19_valueOf_0 := by decide +kernel
theorem dksJ19_valueOf_1 : cJ19_valueOf.data.toList.drop 23 = dktJ19_valueOf_1 := dk_seg dksJ19_valueOf_0 23 rfl rfl
theorem dJ19_valueOf_0 : decode cJ19_valueOf 0 = .ok (.iload_n 0, 1) := dk_26 (dk_at dksJ19_valueOf_0 0 rfl rfl)
theorem dJ19_valueOf_1 : decode cJ19_valueOf 1 = .ok (.bipush (-128), 2) := dk_16 128 (dk_at dksJ19_valueOf_0 1 rfl rfl)
theorem dJ19_valueOf_3 : decode cJ19_valueOf 3 = .ok (.if_icmp .lt 20, 3) := dk_161 0 20 (dk_at dksJ19_valueOf_0 3 rfl rfl)
theorem dJ19_valueOf_6 : decode cJ19_valueOf 6 = .ok (.iload_n 0, 1) := dk_26 (dk_at dksJ19_valueOf_0 6 rfl rfl)
theorem dJ19_valueOf_7 : decode cJ19_valueOf 7 = .ok (.getstatic 191, 3) := dk_178 0 191 (dk_at dksJ19_valueOf_0 7 rfl rfl)
theorem dJ19_valueOf_10 : decode cJ19_valueOf 10 = .ok (.if_icmp .gt 13, 3) := dk_163 0 13 (dk_at dksJ19_valueOf_0 10 rfl rfl)
theorem dJ19_valueOf_13 : decode cJ19_valueOf 13 = .ok (.getstatic 195, 3) := dk_178 0 195 (dk_at dksJ19_valueOf_0 13 rfl rfl)
theorem dJ19_valueOf_16 : decode cJ19_valueOf 16 = .ok (.iload_n 0, 1) := dk_26 (dk_at dksJ19_valueOf_0 16 rfl rfl)
theorem dJ19_valueOf_17 : decode cJ19_valueOf 17 = .ok (.sipush 128, 3) := dk_17 0 128 (dk_at dksJ19_valueOf_0 17 rfl rfl)
theorem dJ19_valueOf_20 : decode cJ19_valueOf 20 = .ok (.iadd, 1) := dk_96 (dk_at dksJ19_valueOf_0 20 rfl rfl)
theorem dJ19_valueOf_21 : decode cJ19_valueOf 21 = .ok (.aaload, 1) := dk_50 (dk_at dksJ19_valueOf_0 21 rfl rfl)
theorem dJ19_valueOf_22 : decode cJ19_valueOf 22 = .ok (.areturn, 1) := dk_176 (dk_at dksJ19_valueOf_0 22 rfl rfl)
theorem dJ19_valueOf_23 : decode cJ19_valueOf 23 = .ok (.new 1, 3) := dk_187 0 1 (dk_at dksJ19_valueOf_1 0 rfl rfl)
theorem dJ19_valueOf_26 : decode cJ19_valueOf 26 = .ok (.dup, 1) := dk_89 (dk_at dksJ19_valueOf_1 3 rfl rfl)
theorem dJ19_valueOf_27 : decode cJ19_valueOf 27 = .ok (.iload_n 0, 1) := dk_26 (dk_at dksJ19_valueOf_1 4 rfl rfl)
theorem dJ19_valueOf_28 : decode cJ19_valueOf 28 = .ok (.invokespecial 199, 3) := dk_183 0 199 (dk_at dksJ19_valueOf_1 5 rfl rfl)
theorem dJ19_valueOf_31 : decode cJ19_valueOf 31 = .ok (.areturn, 1) := dk_176 (dk_at dksJ19_valueOf_1 8 rfl rfl)
abbrev cJ19_init : ByteArray := prog_34_method_23_code
def yJ19_init : MethodName := ⟨RJ19, "<init>", "(I)V"⟩
def dkwJ19_init_0 : List UInt8 := [42, 183, 0, 202, 42, 27, 181, 0, 205, 177]
abbrev dktJ19_init_0 : List UInt8 := dkwJ19_init_0 ++ []
theorem dksJ19_init_0 : cJ19_init.data.toList.drop 0 = dktJ19_init_0 := by decide +kernel
theorem dJ19_init_0 : decode cJ19_init 0 = .ok (.aload_n 0, 1) := dk_42 (dk_at dksJ19_init_0 0 rfl rfl)
theorem dJ19_init_1 : decode cJ19_init 1 = .ok (.invokespecial 202, 3) := dk_183 0 202 (dk_at dksJ19_init_0 1 rfl rfl)
theorem dJ19_init_4 : decode cJ19_init 4 = .ok (.aload_n 0, 1) := dk_42 (dk_at dksJ19_init_0 4 rfl rfl)
theorem dJ19_init_5 : decode cJ19_init 5 = .ok (.iload_n 1, 1) := dk_27 (dk_at dksJ19_init_0 5 rfl rfl)
theorem dJ19_init_6 : decode cJ19_init 6 = .ok (.putfield 205, 3) := dk_181 0 205 (dk_at dksJ19_init_0 6 rfl rfl)
theorem dJ19_init_9 : decode cJ19_init 9 = .ok (.return_, 1) := dk_177 (dk_at dksJ19_init_0 9 rfl rfl)
abbrev cJ19_intValue : ByteArray := prog_34_method_27_code
def yJ19_intValue : MethodName := ⟨RJ19, "intValue", "()I"⟩
theorem dJ19_intValue_0 : decode cJ19_intValue 0 = .ok (.aload_n 0, 1) := by decide +kernel
theorem dJ19_intValue_1 : decode cJ19_intValue 1 = .ok (.getfield 205, 3) := by decide +kernel
theorem dJ19_intValue_4 : decode cJ19_intValue 4 = .ok (.ireturn, 1) := by decide +kernel
theorem q164 : (Jvm.Cond.initialized "java/lang/Integer") ∈ lw_all := lw_g (lw_at lw_m1 39 rfl) rfl
theorem q779 : (Jvm.Cond.selects "java/lang/Integer" ({ cls := "java/lang/Object", name := "getClass", desc := "()Ljava/lang/Class;" } : Jvm.MethodName) ({ cls := "java/lang/Object", name := "getClass", desc := "()Ljava/lang/Class;" } : Jvm.MethodName)) ∈ lw_all := lw_g (lw_at lw_m3 174 rfl) rfl
theorem q1205 : (Jvm.Cond.static ({ cls := "java/lang/Integer", name := "numberOfLeadingZeros", desc := "(I)I" } : Jvm.MethodName)) ∈ lw_all := lw_g (lw_at lw_m5 120 rfl) rfl
theorem q1206 : (Jvm.Cond.code ({ cls := "java/lang/Integer", name := "numberOfLeadingZeros", desc := "(I)I" } : Jvm.MethodName) prog_34_method_47_code (2 : Nat) (Option.some Jvm.ClassFile.FieldType.int)) ∈ lw_all := lw_g (lw_at lw_m5 121 rfl) rfl
theorem q1207 : (Jvm.Cond.constant "java/lang/Integer" (264 : Nat) (65536 : Int32)) ∈ lw_all := lw_g (lw_at lw_m5 122 rfl) rfl
theorem q1214 : (Jvm.Cond.static ({ cls := "java/lang/Integer", name := "numberOfTrailingZeros", desc := "(I)I" } : Jvm.MethodName)) ∈ lw_all := lw_g (lw_at lw_m5 129 rfl) rfl
theorem q1215 : (Jvm.Cond.code ({ cls := "java/lang/Integer", name := "numberOfTrailingZeros", desc := "(I)I" } : Jvm.MethodName) prog_34_method_48_code (2 : Nat) (Option.some Jvm.ClassFile.FieldType.int)) ∈ lw_all := lw_g (lw_at lw_m5 130 rfl) rfl
theorem q1714 : (Jvm.Cond.static ({ cls := "java/lang/Integer", name := "valueOf", desc := "(I)Ljava/lang/Integer;" } : Jvm.MethodName)) ∈ lw_all := lw_g (lw_at lw_m7 149 rfl) rfl
theorem q1715 : (Jvm.Cond.code ({ cls := "java/lang/Integer", name := "valueOf", desc := "(I)Ljava/lang/Integer;" } : Jvm.MethodName) prog_34_method_22_code (1 : Nat) (Option.some (Jvm.ClassFile.FieldType.object "java/lang/Integer"))) ∈ lw_all := lw_g (lw_at lw_m7 150 rfl) rfl
theorem q1716 : (Jvm.Cond.fieldLink "java/lang/Integer" (191 : Nat) "java/lang/Integer$IntegerCache" "high" "I") ∈ lw_all := lw_g (lw_at lw_m7 151 rfl) rfl
theorem q1718 : (Jvm.Cond.fieldLink "java/lang/Integer" (195 : Nat) "java/lang/Integer$IntegerCache" "cache" "[Ljava/lang/Integer;") ∈ lw_all := lw_g (lw_at lw_m7 153 rfl) rfl
theorem q1720 : (Jvm.Cond.classLink "java/lang/Integer" (1 : Nat) "java/lang/Integer") ∈ lw_all := lw_g (lw_at lw_m7 155 rfl) rfl
theorem q1721 : (Jvm.Cond.instantiable "java/lang/Integer" (1 : Nat)) ∈ lw_all := lw_g (lw_at lw_m7 156 rfl) rfl
theorem q1722 : (Jvm.Cond.methodLink "java/lang/Integer" (199 : Nat) ({ cls := "java/lang/Integer", name := "<init>", desc := "(I)V" } : Jvm.MethodName)) ∈ lw_all := lw_g (lw_at lw_m7 157 rfl) rfl
theorem q1723 : (Jvm.Cond.instanceMethod ({ cls := "java/lang/Integer", name := "<init>", desc := "(I)V" } : Jvm.MethodName)) ∈ lw_all := lw_g (lw_at lw_m7 158 rfl) rfl
theorem q1724 : (Jvm.Cond.code ({ cls := "java/lang/Integer", name := "<init>", desc := "(I)V" } : Jvm.MethodName) prog_34_method_23_code (2 : Nat) (Option.none : Option Jvm.ClassFile.FieldType)) ∈ lw_all := lw_g (lw_at lw_m7 159 rfl) rfl
theorem q1725 : (Jvm.Cond.methodLink "java/lang/Integer" (202 : Nat) ({ cls := "java/lang/Number", name := "<init>", desc := "()V" } : Jvm.MethodName)) ∈ lw_all := lw_g (lw_at lw_m7 160 rfl) rfl
theorem q1729 : (Jvm.Cond.fieldLink "java/lang/Integer" (205 : Nat) "java/lang/Integer" "value" "I") ∈ lw_all := lw_g (lw_at lw_m7 164 rfl) rfl
theorem q1730 : (Jvm.Cond.laysFinal "java/lang/Integer" "java/lang/Integer" "value" "I") ∈ lw_all := lw_g (lw_at lw_m7 165 rfl) rfl
theorem q1731 : (Jvm.Cond.soleField "java/lang/Integer" "value") ∈ lw_all := lw_g (lw_at lw_m7 166 rfl) rfl
theorem q1732 : (Jvm.Cond.superclass "java/lang/Integer" "java/lang/Number") ∈ lw_all := lw_g (lw_at lw_m7 167 rfl) rfl
theorem q1877 : (Jvm.Cond.instanceMethod ({ cls := "java/lang/Integer", name := "intValue", desc := "()I" } : Jvm.MethodName)) ∈ lw_all := lw_g (lw_at lw_m8 72 rfl) rfl
theorem q1878 : (Jvm.Cond.selects "java/lang/Integer" ({ cls := "java/lang/Integer", name := "intValue", desc := "()I" } : Jvm.MethodName) ({ cls := "java/lang/Integer", name := "intValue", desc := "()I" } : Jvm.MethodName)) ∈ lw_all := lw_g (lw_at lw_m8 73 rfl) rfl
theorem q1879 : (Jvm.Cond.code ({ cls := "java/lang/Integer", name := "intValue", desc := "()I" } : Jvm.MethodName) prog_34_method_27_code (1 : Nat) (Option.some Jvm.ClassFile.FieldType.int)) ∈ lw_all := lw_g (lw_at lw_m8 74 rfl) rfl
theorem q2994 : (Jvm.Cond.castable "java/lang/Integer" "java/lang/Object") ∈ lw_tbl := lw_at lw_m12 229 rfl
theorem in_J19 : ∀ w ∈ wsJ190, w ∈ lw_all := lw_in wsJ190 [1730] (by decide +kernel) (by decide +kernel)

/-! java/util/ArrayList -/
set_option maxRecDepth 100000
def RJ2 : String := "java/util/ArrayList"
def TJ2 : u_T := fun k => match k with
  | 0 => ("java/util/AbstractList", "modCount", "I", false)
  | 1 => ("java/util/ArrayList", "elementData", "[Ljava/lang/Object;", false)
  | _ => ("java/util/ArrayList", "size", "I", false)
def tyJ2 : Nat → FieldType := fun k => match k with
  | 0 => .int
  | 1 => .array (.object "java/lang/Object")
  | _ => .int
abbrev wsJ20 : List Cond := u_ws RJ2 TJ2 3
theorem nmJ2 : ∀ a, a < 3 → ∀ b, b < 3 → a ≠ b → (TJ2 a).2.1 ≠ (TJ2 b).2.1 := by decide +kernel
theorem tyJ2_ok : ∀ k, k < 3 → parseFieldDescriptor (TJ2 k).2.2.1 = some (tyJ2 k) := by decide +kernel
abbrev cJ2_init : ByteArray := prog_50_method_1_code
def yJ2_init : MethodName := ⟨RJ2, "<init>", "(I)V"⟩
def dkwJ2_init_2 : List UInt8 := [182, 0, 25, 27, 182, 0, 29, 182, 0, 32, 183, 0, 36, 191, 177]
abbrev dktJ2_init_2 : List UInt8 := dkwJ2_init_2 ++ []
def dkwJ2_init_1 : List UInt8 := [178, 0, 15, 181, 0, 9, 167, 0, 30, 187, 0, 18, 89, 187, 0, 20, 89, 183, 0, 22, 18, 23]
abbrev dktJ2_init_1 : List UInt8 := dkwJ2_init_1 ++ dktJ2_init_2
def dkwJ2_init_0 : List UInt8 := [42, 183, 0, 1, 27, 158, 0, 14, 42, 27, 189, 0, 7, 181, 0, 9, 167, 0, 44, 27, 154, 0, 13, 42]
abbrev dktJ2_init_0 : List UInt8 := dkwJ2_init_0 ++ dktJ2_init_1
theorem dksJ2_init_0 : cJ2_init.data.toList.drop 0 = dktJ2_init_0 := by decide +kernel
theorem dksJ2_init_1 : cJ2_init.data.toList.drop 24 = dktJ2_init_1 := dk_seg dksJ2_init_0 24 rfl rfl
theorem dksJ2_init_2 : cJ2_init.data.toList.drop 46 = dktJ2_init_2 := dk_seg dksJ2_init_1 22 rfl rfl
theorem dJ2_init_0 : decode cJ2_init 0 = .ok (.aload_n 0, 1) := dk_42 (dk_at dksJ2_init_0 0 rfl rfl)
theorem dJ2_init_1 : decode cJ2_init 1 = .ok (.invokespecial 1, 3) := dk_183 0 1 (dk_at dksJ2_init_0 1 rfl rfl)
theorem dJ2_init_4 : decode cJ2_init 4 = .ok (.iload_n 1, 1) := dk_27 (dk_at dksJ2_init_0 4 rfl rfl)
theorem dJ2_init_5 : decode cJ2_init 5 = .ok (.ifCond .le 14, 3) := dk_158 0 14 (dk_at dksJ2_init_0 5 rfl rfl)
theorem dJ2_init_8 : decode cJ2_init 8 = .ok (.aload_n 0, 1) := dk_42 (dk_at dksJ2_init_0 8 rfl rfl)
theorem dJ2_init_9 : decode cJ2_init 9 = .ok (.iload_n 1, 1) := dk_27 (dk_at dksJ2_init_0 9 rfl rfl)
theorem dJ2_init_10 : decode cJ2_init 10 = .ok (.anewarray 7, 3) := dk_189 0 7 (dk_at dksJ2_init_0 10 rfl rfl)
theorem dJ2_init_13 : decode cJ2_init 13 = .ok (.putfield 9, 3) := dk_181 0 9 (dk_at dksJ2_init_0 13 rfl rfl)
theorem dJ2_init_16 : decode cJ2_init 16 = .ok (.goto 44, 3) := dk_167 0 44 (dk_at dksJ2_init_0 16 rfl rfl)
theorem dJ2_init_19 : decode cJ2_init 19 = .ok (.iload_n 1, 1) := dk_27 (dk_at dksJ2_init_0 19 rfl rfl)
theorem dJ2_init_20 : decode cJ2_init 20 = .ok (.ifCond .ne 13, 3) := dk_154 0 13 (dk_at dksJ2_init_0 20 rfl rfl)
theorem dJ2_init_23 : decode cJ2_init 23 = .ok (.aload_n 0, 1) := dk_42 (dk_at dksJ2_init_0 23 rfl rfl)
theorem dJ2_init_24 : decode cJ2_init 24 = .ok (.getstatic 15, 3) := dk_178 0 15 (dk_at dksJ2_init_1 0 rfl rfl)
theorem dJ2_init_27 : decode cJ2_init 27 = .ok (.putfield 9, 3) := dk_181 0 9 (dk_at dksJ2_init_1 3 rfl rfl)
theorem dJ2_init_30 : decode cJ2_init 30 = .ok (.goto 30, 3) := dk_167 0 30 (dk_at dksJ2_init_1 6 rfl rfl)
theorem dJ2_init_33 : decode cJ2_init 33 = .ok (.new 18, 3) := dk_187 0 18 (dk_at dksJ2_init_1 9 rfl rfl)
theorem dJ2_init_36 : decode cJ2_init 36 = .ok (.dup, 1) := dk_89 (dk_at dksJ2_init_1 12 rfl rfl)
theorem dJ2_init_37 : decode cJ2_init 37 = .ok (.new 20, 3) := dk_187 0 20 (dk_at dksJ2_init_1 13 rfl rfl)
theorem dJ2_init_40 : decode cJ2_init 40 = .ok (.dup, 1) := dk_89 (dk_at dksJ2_init_1 16 rfl rfl)
theorem dJ2_init_41 : decode cJ2_init 41 = .ok (.invokespecial 22, 3) := dk_183 0 22 (dk_at dksJ2_init_1 17 rfl rfl)
theorem dJ2_init_44 : decode cJ2_init 44 = .ok (.ldc 23, 2) := dk_18 23 (dk_at dksJ2_init_1 20 rfl rfl)
theorem dJ2_init_46 : decode cJ2_init 46 = .ok (.invokevirtual 25, 3) := dk_182 0 25 (dk_at dksJ2_init_2 0 rfl rfl)
theorem dJ2_init_49 : decode cJ2_init 49 = .ok (.iload_n 1, 1) := dk_27 (dk_at dksJ2_init_2 3 rfl rfl)
theorem dJ2_init_50 : decode cJ2_init 50 = .ok (.invokevirtual 29, 3) := dk_182 0 29 (dk_at dksJ2_init_2 4 rfl rfl)
theorem dJ2_init_53 : decode cJ2_init 53 = .ok (.invokevirtual 32, 3) := dk_182 0 32 (dk_at dksJ2_init_2 7 rfl rfl)
theorem dJ2_init_56 : decode cJ2_init 56 = .ok (.invokespecial 36, 3) := dk_183 0 36 (dk_at dksJ2_init_2 10 rfl rfl)
theorem dJ2_init_59 : decode cJ2_init 59 = .ok (.athrow, 1) := dk_191 (dk_at dksJ2_init_2 13 rfl rfl)
theorem dJ2_init_60 : decode cJ2_init 60 = .ok (.return_, 1) := dk_177 (dk_at dksJ2_init_2 14 rfl rfl)
abbrev cJ2_size : ByteArray := prog_50_method_8_code
def yJ2_size : MethodName := ⟨RJ2, "size", "()I"⟩
theorem dJ2_size_0 : decode cJ2_size 0 = .ok (.aload_n 0, 1) := by decide +kernel
theorem dJ2_size_1 : decode cJ2_size 1 = .ok (.getfield 48, 3) := by decide +kernel
theorem dJ2_size_4 : decode cJ2_size 4 = .ok (.ireturn, 1) := by decide +kernel
abbrev cJ2_init_2 : ByteArray := prog_50_method_2_code
def yJ2_init_2 : MethodName := ⟨RJ2, "<init>", "()V"⟩
def dkwJ2_init_2_0 : List UInt8 := [42, 183, 0, 1, 42, 178, 0, 39, 181, 0, 9, 177]
abbrev dktJ2_init_2_0 : List UInt8 := dkwJ2_init_2_0 ++ []
theorem dksJ2_init_2_0 : cJ2_init_2.data.toList.drop 0 = dktJ2_init_2_0 := by decide +kernel
theorem dJ2_init_2_0 : decode cJ2_init_2 0 = .ok (.aload_n 0, 1) := dk_42 (dk_at dksJ2_init_2_0 0 rfl rfl)
theorem dJ2_init_2_1 : decode cJ2_init_2 1 = .ok (.invokespecial 1, 3) := dk_183 0 1 (dk_at dksJ2_init_2_0 1 rfl rfl)
theorem dJ2_init_2_4 : decode cJ2_init_2 4 = .ok (.aload_n 0, 1) := dk_42 (dk_at dksJ2_init_2_0 4 rfl rfl)
theorem dJ2_init_2_5 : decode cJ2_init_2 5 = .ok (.getstatic 39, 3) := dk_178 0 39 (dk_at dksJ2_init_2_0 5 rfl rfl)
theorem dJ2_init_2_8 : decode cJ2_init_2 8 = .ok (.putfield 9, 3) := dk_181 0 9 (dk_at dksJ2_init_2_0 8 rfl rfl)
theorem dJ2_init_2_11 : decode cJ2_init_2 11 = .ok (.return_, 1) := dk_177 (dk_at dksJ2_init_2_0 11 rfl rfl)
abbrev cJ2_add : ByteArray := prog_50_method_25_code
def yJ2_add : MethodName := ⟨RJ2, "add", "(Ljava/lang/Object;)Z"⟩
def dkwJ2_add_1 : List UInt8 := [172]
abbrev dktJ2_add_1 : List UInt8 := dkwJ2_add_1 ++ []
def dkwJ2_add_0 : List UInt8 := [42, 89, 180, 0, 63, 4, 96, 181, 0, 63, 42, 43, 42, 180, 0, 9, 42, 180, 0, 48, 182, 0, 131, 4]
abbrev dktJ2_add_0 : List UInt8 := dkwJ2_add_0 ++ dktJ2_add_1
theorem dksJ2_add_0 : cJ2_add.data.toList.drop 0 = dktJ2_add_0 := by decide +kernel
theorem dksJ2_add_1 : cJ2_add.data.toList.drop 24 = dktJ2_add_1 := dk_seg dksJ2_add_0 24 rfl rfl
theorem dJ2_add_0 : decode cJ2_add 0 = .ok (.aload_n 0, 1) := dk_42 (dk_at dksJ2_add_0 0 rfl rfl)
theorem dJ2_add_1 : decode cJ2_add 1 = .ok (.dup, 1) := dk_89 (dk_at dksJ2_add_0 1 rfl rfl)
theorem dJ2_add_2 : decode cJ2_add 2 = .ok (.getfield 63, 3) := dk_180 0 63 (dk_at dksJ2_add_0 2 rfl rfl)
theorem dJ2_add_5 : decode cJ2_add 5 = .ok (.iconst 1, 1) := dk_4 (dk_at dksJ2_add_0 5 rfl rfl)
theorem dJ2_add_6 : decode cJ2_add 6 = .ok (.iadd, 1) := dk_96 (dk_at dksJ2_add_0 6 rfl rfl)
theorem dJ2_add_7 : decode cJ2_add 7 = .ok (.putfield 63, 3) := dk_181 0 63 (dk_at dksJ2_add_0 7 rfl rfl)
theorem dJ2_add_10 : decode cJ2_add 10 = .ok (.aload_n 0, 1) := dk_42 (dk_at dksJ2_add_0 10 rfl rfl)
theorem dJ2_add_11 : decode cJ2_add 11 = .ok (.aload_n 1, 1) := dk_43 (dk_at dksJ2_add_0 11 rfl rfl)
theorem dJ2_add_12 : decode cJ2_add 12 = .ok (.aload_n 0, 1) := dk_42 (dk_at dksJ2_add_0 12 rfl rfl)
theorem dJ2_add_13 : decode cJ2_add 13 = .ok (.getfield 9, 3) := dk_180 0 9 (dk_at dksJ2_add_0 13 rfl rfl)
theorem dJ2_add_16 : decode cJ2_add 16 = .ok (.aload_n 0, 1) := dk_42 (dk_at dksJ2_add_0 16 rfl rfl)
theorem dJ2_add_17 : decode cJ2_add 17 = .ok (.getfield 48, 3) := dk_180 0 48 (dk_at dksJ2_add_0 17 rfl rfl)
theorem dJ2_add_20 : decode cJ2_add 20 = .ok (.invokevirtual 131, 3) := dk_182 0 131 (dk_at dksJ2_add_0 20 rfl rfl)
theorem dJ2_add_23 : decode cJ2_add 23 = .ok (.iconst 1, 1) := dk_4 (dk_at dksJ2_add_0 23 rfl rfl)
theorem dJ2_add_24 : decode cJ2_add 24 = .ok (.ireturn, 1) := dk_172 (dk_at dksJ2_add_1 0 rfl rfl)
abbrev cJ2_add_2 : ByteArray := prog_50_method_24_code
def yJ2_add_2 : MethodName := ⟨RJ2, "add", "(Ljava/lang/Object;[Ljava/lang/Object;I)V"⟩
def dkwJ2_add_2_0 : List UInt8 := [29, 44, 190, 160, 0, 8, 42, 182, 0, 129, 77, 44, 29, 43, 83, 42, 29, 4, 96, 181, 0, 48, 177]
abbrev dktJ2_add_2_0 : List UInt8 := dkwJ2_add_2_0 ++ []
theorem dksJ2_add_2_0 : cJ2_add_2.data.toList.drop 0 = dktJ2_add_2_0 := by decide +kernel
theorem dJ2_add_2_0 : decode cJ2_add_2 0 = .ok (.iload_n 3, 1) := dk_29 (dk_at dksJ2_add_2_0 0 rfl rfl)
theorem dJ2_add_2_1 : decode cJ2_add_2 1 = .ok (.aload_n 2, 1) := dk_44 (dk_at dksJ2_add_2_0 1 rfl rfl)
theorem dJ2_add_2_2 : decode cJ2_add_2 2 = .ok (.arraylength, 1) := dk_190 (dk_at dksJ2_add_2_0 2 rfl rfl)
theorem dJ2_add_2_3 : decode cJ2_add_2 3 = .ok (.if_icmp .ne 8, 3) := dk_160 0 8 (dk_at dksJ2_add_2_0 3 rfl rfl)
theorem dJ2_add_2_6 : decode cJ2_add_2 6 = .ok (.aload_n 0, 1) := dk_42 (dk_at dksJ2_add_2_0 6 rfl rfl)
theorem dJ2_add_2_7 : decode cJ2_add_2 7 = .ok (.invokevirtual 129, 3) := dk_182 0 129 (dk_at dksJ2_add_2_0 7 rfl rfl)
theorem dJ2_add_2_10 : decode cJ2_add_2 10 = .ok (.astore_n 2, 1) := dk_77 (dk_at dksJ2_add_2_0 10 rfl rfl)
theorem dJ2_add_2_11 : decode cJ2_add_2 11 = .ok (.aload_n 2, 1) := dk_44 (dk_at dksJ2_add_2_0 11 rfl rfl)
theorem dJ2_add_2_12 : decode cJ2_add_2 12 = .ok (.iload_n 3, 1) := dk_29 (dk_at dksJ2_add_2_0 12 rfl rfl)
theorem dJ2_add_2_13 : decode cJ2_add_2 13 = .ok (.aload_n 1, 1) := dk_43 (dk_at dksJ2_add_2_0 13 rfl rfl)
theorem dJ2_add_2_14 : decode cJ2_add_2 14 = .ok (.aastore, 1) := dk_83 (dk_at dksJ2_add_2_0 14 rfl rfl)
theorem dJ2_add_2_15 : decode cJ2_add_2 15 = .ok (.aload_n 0, 1) := dk_42 (dk_at dksJ2_add_2_0 15 rfl rfl)
theorem dJ2_add_2_16 : decode cJ2_add_2 16 = .ok (.iload_n 3, 1) := dk_29 (dk_at dksJ2_add_2_0 16 rfl rfl)
theorem dJ2_add_2_17 : decode cJ2_add_2 17 = .ok (.iconst 1, 1) := dk_4 (dk_at dksJ2_add_2_0 17 rfl rfl)
theorem dJ2_add_2_18 : decode cJ2_add_2 18 = .ok (.iadd, 1) := dk_96 (dk_at dksJ2_add_2_0 18 rfl rfl)
theorem dJ2_add_2_19 : decode cJ2_add_2 19 = .ok (.putfield 48, 3) := dk_181 0 48 (dk_at dksJ2_add_2_0 19 rfl rfl)
theorem dJ2_add_2_22 : decode cJ2_add_2 22 = .ok (.return_, 1) := dk_177 (dk_at dksJ2_add_2_0 22 rfl rfl)
abbrev cJ2_grow : ByteArray := prog_50_method_7_code
def yJ2_grow : MethodName := ⟨RJ2, "grow", "()[Ljava/lang/Object;"⟩
def dkwJ2_grow_0 : List UInt8 := [42, 42, 180, 0, 48, 4, 96, 182, 0, 69, 176]
abbrev dktJ2_grow_0 : List UInt8 := dkwJ2_grow_0 ++ []
theorem dksJ2_grow_0 : cJ2_grow.data.toList.drop 0 = dktJ2_grow_0 := by decide +kernel
theorem dJ2_grow_0 : decode cJ2_grow 0 = .ok (.aload_n 0, 1) := dk_42 (dk_at dksJ2_grow_0 0 rfl rfl)
theorem dJ2_grow_1 : decode cJ2_grow 1 = .ok (.aload_n 0, 1) := dk_42 (dk_at dksJ2_grow_0 1 rfl rfl)
theorem dJ2_grow_2 : decode cJ2_grow 2 = .ok (.getfield 48, 3) := dk_180 0 48 (dk_at dksJ2_grow_0 2 rfl rfl)
theorem dJ2_grow_5 : decode cJ2_grow 5 = .ok (.iconst 1, 1) := dk_4 (dk_at dksJ2_grow_0 5 rfl rfl)
theorem dJ2_grow_6 : decode cJ2_grow 6 = .ok (.iadd, 1) := dk_96 (dk_at dksJ2_grow_0 6 rfl rfl)
theorem dJ2_grow_7 : decode cJ2_grow 7 = .ok (.invokevirtual 69, 3) := dk_182 0 69 (dk_at dksJ2_grow_0 7 rfl rfl)
theorem dJ2_grow_10 : decode cJ2_grow 10 = .ok (.areturn, 1) := dk_176 (dk_at dksJ2_grow_0 10 rfl rfl)
abbrev cJ2_grow_2 : ByteArray := prog_50_method_6_code
def yJ2_grow_2 : MethodName := ⟨RJ2, "grow", "(I)[Ljava/lang/Object;"⟩
def dkwJ2_grow_2_2 : List UInt8 := [27, 184, 0, 79, 189, 0, 7, 90, 181, 0, 9, 176]
abbrev dktJ2_grow_2_2 : List UInt8 := dkwJ2_grow_2_2 ++ []
def dkwJ2_grow_2_1 : List UInt8 := [28, 4, 122, 184, 0, 73, 62, 42, 42, 180, 0, 9, 29, 184, 0, 66, 90, 181, 0, 9, 176, 42, 16, 10]
abbrev dktJ2_grow_2_1 : List UInt8 := dkwJ2_grow_2_1 ++ dktJ2_grow_2_2
def dkwJ2_grow_2_0 : List UInt8 := [42, 180, 0, 9, 190, 61, 28, 157, 0, 13, 42, 180, 0, 9, 178, 0, 39, 165, 0, 28, 28, 27, 28, 100]
abbrev dktJ2_grow_2_0 : List UInt8 := dkwJ2_grow_2_0 ++ dktJ2_grow_2_1
theorem dksJ2_grow_2_0 : cJ2_grow_2.data.toList.drop 0 = dktJ2_grow_2_0 := by decide +kernel
theorem dksJ2_grow_2_1 : cJ2_grow_2.data.toList.drop 24 = dktJ2_grow_2_1 := dk_seg dksJ2_grow_2_0 24 rfl rfl
theorem dksJ2_grow_2_2 : cJ2_grow_2.data.toList.drop 48 = dktJ2_grow_2_2 := dk_seg dksJ2_grow_2_1 24 rfl rfl
theorem dJ2_grow_2_0 : decode cJ2_grow_2 0 = .ok (.aload_n 0, 1) := dk_42 (dk_at dksJ2_grow_2_0 0 rfl rfl)
theorem dJ2_grow_2_1 : decode cJ2_grow_2 1 = .ok (.getfield 9, 3) := dk_180 0 9 (dk_at dksJ2_grow_2_0 1 rfl rfl)
theorem dJ2_grow_2_4 : decode cJ2_grow_2 4 = .ok (.arraylength, 1) := dk_190 (dk_at dksJ2_grow_2_0 4 rfl rfl)
theorem dJ2_grow_2_5 : decode cJ2_grow_2 5 = .ok (.istore_n 2, 1) := dk_61 (dk_at dksJ2_grow_2_0 5 rfl rfl)
theorem dJ2_grow_2_6 : decode cJ2_grow_2 6 = .ok (.iload_n 2, 1) := dk_28 (dk_at dksJ2_grow_2_0 6 rfl rfl)
theorem dJ2_grow_2_7 : decode cJ2_grow_2 7 = .ok (.ifCond .gt 13, 3) := dk_157 0 13 (dk_at dksJ2_grow_2_0 7 rfl rfl)
theorem dJ2_grow_2_10 : decode cJ2_grow_2 10 = .ok (.aload_n 0, 1) := dk_42 (dk_at dksJ2_grow_2_0 10 rfl rfl)
theorem dJ2_grow_2_11 : decode cJ2_grow_2 11 = .ok (.getfield 9, 3) := dk_180 0 9 (dk_at dksJ2_grow_2_0 11 rfl rfl)
theorem dJ2_grow_2_14 : decode cJ2_grow_2 14 = .ok (.getstatic 39, 3) := dk_178 0 39 (dk_at dksJ2_grow_2_0 14 rfl rfl)
theorem dJ2_grow_2_17 : decode cJ2_grow_2 17 = .ok (.if_acmp .eq 28, 3) := dk_165 0 28 (dk_at dksJ2_grow_2_0 17 rfl rfl)
theorem dJ2_grow_2_20 : decode cJ2_grow_2 20 = .ok (.iload_n 2, 1) := dk_28 (dk_at dksJ2_grow_2_0 20 rfl rfl)
theorem dJ2_grow_2_21 : decode cJ2_grow_2 21 = .ok (.iload_n 1, 1) := dk_27 (dk_at dksJ2_grow_2_0 21 rfl rfl)
theorem dJ2_grow_2_22 : decode cJ2_grow_2 22 = .ok (.iload_n 2, 1) := dk_28 (dk_at dksJ2_grow_2_0 22 rfl rfl)
theorem dJ2_grow_2_23 : decode cJ2_grow_2 23 = .ok (.isub, 1) := dk_100 (dk_at dksJ2_grow_2_0 23 rfl rfl)
theorem dJ2_grow_2_24 : decode cJ2_grow_2 24 = .ok (.iload_n 2, 1) := dk_28 (dk_at dksJ2_grow_2_1 0 rfl rfl)
theorem dJ2_grow_2_25 : decode cJ2_grow_2 25 = .ok (.iconst 1, 1) := dk_4 (dk_at dksJ2_grow_2_1 1 rfl rfl)
theorem dJ2_grow_2_26 : decode cJ2_grow_2 26 = .ok (.ishr, 1) := dk_122 (dk_at dksJ2_grow_2_1 2 rfl rfl)
theorem dJ2_grow_2_27 : decode cJ2_grow_2 27 = .ok (.invokestatic 73, 3) := dk_184 0 73 (dk_at dksJ2_grow_2_1 3 rfl rfl)
theorem dJ2_grow_2_30 : decode cJ2_grow_2 30 = .ok (.istore_n 3, 1) := dk_62 (dk_at dksJ2_grow_2_1 6 rfl rfl)
theorem dJ2_grow_2_31 : decode cJ2_grow_2 31 = .ok (.aload_n 0, 1) := dk_42 (dk_at dksJ2_grow_2_1 7 rfl rfl)
theorem dJ2_grow_2_32 : decode cJ2_grow_2 32 = .ok (.aload_n 0, 1) := dk_42 (dk_at dksJ2_grow_2_1 8 rfl rfl)
theorem dJ2_grow_2_33 : decode cJ2_grow_2 33 = .ok (.getfield 9, 3) := dk_180 0 9 (dk_at dksJ2_grow_2_1 9 rfl rfl)
theorem dJ2_grow_2_36 : decode cJ2_grow_2 36 = .ok (.iload_n 3, 1) := dk_29 (dk_at dksJ2_grow_2_1 12 rfl rfl)
theorem dJ2_grow_2_37 : decode cJ2_grow_2 37 = .ok (.invokestatic 66, 3) := dk_184 0 66 (dk_at dksJ2_grow_2_1 13 rfl rfl)
theorem dJ2_grow_2_40 : decode cJ2_grow_2 40 = .ok (.dup_x1, 1) := dk_90 (dk_at dksJ2_grow_2_1 16 rfl rfl)
theorem dJ2_grow_2_41 : decode cJ2_grow_2 41 = .ok (.putfield 9, 3) := dk_181 0 9 (dk_at dksJ2_grow_2_1 17 rfl rfl)
theorem dJ2_grow_2_44 : decode cJ2_grow_2 44 = .ok (.areturn, 1) := dk_176 (dk_at dksJ2_grow_2_1 20 rfl rfl)
theorem dJ2_grow_2_45 : decode cJ2_grow_2 45 = .ok (.aload_n 0, 1) := dk_42 (dk_at dksJ2_grow_2_1 21 rfl rfl)
theorem dJ2_grow_2_46 : decode cJ2_grow_2 46 = .ok (.bipush 10, 2) := dk_16 10 (dk_at dksJ2_grow_2_1 22 rfl rfl)
theorem dJ2_grow_2_48 : decode cJ2_grow_2 48 = .ok (.iload_n 1, 1) := dk_27 (dk_at dksJ2_grow_2_2 0 rfl rfl)
theorem dJ2_grow_2_49 : decode cJ2_grow_2 49 = .ok (.invokestatic 79, 3) := dk_184 0 79 (dk_at dksJ2_grow_2_2 1 rfl rfl)
theorem dJ2_grow_2_52 : decode cJ2_grow_2 52 = .ok (.anewarray 7, 3) := dk_189 0 7 (dk_at dksJ2_grow_2_2 4 rfl rfl)
theorem dJ2_grow_2_55 : decode cJ2_grow_2 55 = .ok (.dup_x1, 1) := dk_90 (dk_at dksJ2_grow_2_2 7 rfl rfl)
theorem dJ2_grow_2_56 : decode cJ2_grow_2 56 = .ok (.putfield 9, 3) := dk_181 0 9 (dk_at dksJ2_grow_2_2 8 rfl rfl)
theorem dJ2_grow_2_59 : decode cJ2_grow_2 59 = .ok (.areturn, 1) := dk_176 (dk_at dksJ2_grow_2_2 11 rfl rfl)
abbrev cJ2_set : ByteArray := prog_50_method_23_code
def yJ2_set : MethodName := ⟨RJ2, "set", "(ILjava/lang/Object;)Ljava/lang/Object;"⟩
def dkwJ2_set_0 : List UInt8 := [27, 42, 180, 0, 48, 184, 0, 118, 87, 42, 27, 182, 0, 123, 78, 42, 180, 0, 9, 27, 44, 83, 45, 176]
abbrev dktJ2_set_0 : List UInt8 := dkwJ2_set_0 ++ []
theorem dksJ2_set_0 : cJ2_set.data.toList.drop 0 = dktJ2_set_0 := by decide +kernel
theorem dJ2_set_0 : decode cJ2_set 0 = .ok (.iload_n 1, 1) := dk_27 (dk_at dksJ2_set_0 0 rfl rfl)
theorem dJ2_set_1 : decode cJ2_set 1 = .ok (.aload_n 0, 1) := dk_42 (dk_at dksJ2_set_0 1 rfl rfl)
theorem dJ2_set_2 : decode cJ2_set 2 = .ok (.getfield 48, 3) := dk_180 0 48 (dk_at dksJ2_set_0 2 rfl rfl)
theorem dJ2_set_5 : decode cJ2_set 5 = .ok (.invokestatic 118, 3) := dk_184 0 118 (dk_at dksJ2_set_0 5 rfl rfl)
theorem dJ2_set_8 : decode cJ2_set 8 = .ok (.pop, 1) := dk_87 (dk_at dksJ2_set_0 8 rfl rfl)
theorem dJ2_set_9 : decode cJ2_set 9 = .ok (.aload_n 0, 1) := dk_42 (dk_at dksJ2_set_0 9 rfl rfl)
theorem dJ2_set_10 : decode cJ2_set 10 = .ok (.iload_n 1, 1) := dk_27 (dk_at dksJ2_set_0 10 rfl rfl)
theorem dJ2_set_11 : decode cJ2_set 11 = .ok (.invokevirtual 123, 3) := dk_182 0 123 (dk_at dksJ2_set_0 11 rfl rfl)
theorem dJ2_set_14 : decode cJ2_set 14 = .ok (.astore_n 3, 1) := dk_78 (dk_at dksJ2_set_0 14 rfl rfl)
theorem dJ2_set_15 : decode cJ2_set 15 = .ok (.aload_n 0, 1) := dk_42 (dk_at dksJ2_set_0 15 rfl rfl)
theorem dJ2_set_16 : decode cJ2_set 16 = .ok (.getfield 9, 3) := dk_180 0 9 (dk_at dksJ2_set_0 16 rfl rfl)
theorem dJ2_set_19 : decode cJ2_set 19 = .ok (.iload_n 1, 1) := dk_27 (dk_at dksJ2_set_0 19 rfl rfl)
theorem dJ2_set_20 : decode cJ2_set 20 = .ok (.aload_n 2, 1) := dk_44 (dk_at dksJ2_set_0 20 rfl rfl)
theorem dJ2_set_21 : decode cJ2_set 21 = .ok (.aastore, 1) := dk_83 (dk_at dksJ2_set_0 21 rfl rfl)
theorem dJ2_set_22 : decode cJ2_set 22 = .ok (.aload_n 3, 1) := dk_45 (dk_at dksJ2_set_0 22 rfl rfl)
theorem dJ2_set_23 : decode cJ2_set 23 = .ok (.areturn, 1) := dk_176 (dk_at dksJ2_set_0 23 rfl rfl)
abbrev cJ2_elementData : ByteArray := prog_50_method_18_code
def yJ2_elementData : MethodName := ⟨RJ2, "elementData", "(I)Ljava/lang/Object;"⟩
def dkwJ2_elementData_0 : List UInt8 := [42, 180, 0, 9, 27, 50, 176]
abbrev dktJ2_elementData_0 : List UInt8 := dkwJ2_elementData_0 ++ []
theorem dksJ2_elementData_0 : cJ2_elementData.data.toList.drop 0 = dktJ2_elementData_0 := by decide +kernel
theorem dJ2_elementData_0 : decode cJ2_elementData 0 = .ok (.aload_n 0, 1) := dk_42 (dk_at dksJ2_elementData_0 0 rfl rfl)
theorem dJ2_elementData_1 : decode cJ2_elementData 1 = .ok (.getfield 9, 3) := dk_180 0 9 (dk_at dksJ2_elementData_0 1 rfl rfl)
theorem dJ2_elementData_4 : decode cJ2_elementData 4 = .ok (.iload_n 1, 1) := dk_27 (dk_at dksJ2_elementData_0 4 rfl rfl)
theorem dJ2_elementData_5 : decode cJ2_elementData 5 = .ok (.aaload, 1) := dk_50 (dk_at dksJ2_elementData_0 5 rfl rfl)
theorem dJ2_elementData_6 : decode cJ2_elementData 6 = .ok (.areturn, 1) := dk_176 (dk_at dksJ2_elementData_0 6 rfl rfl)
abbrev cJ2_get : ByteArray := prog_50_method_20_code
def yJ2_get : MethodName := ⟨RJ2, "get", "(I)Ljava/lang/Object;"⟩
def dkwJ2_get_0 : List UInt8 := [27, 42, 180, 0, 48, 184, 0, 118, 87, 42, 27, 182, 0, 123, 176]
abbrev dktJ2_get_0 : List UInt8 := dkwJ2_get_0 ++ []
theorem dksJ2_get_0 : cJ2_get.data.toList.drop 0 = dktJ2_get_0 := by decide +kernel
theorem dJ2_get_0 : decode cJ2_get 0 = .ok (.iload_n 1, 1) := dk_27 (dk_at dksJ2_get_0 0 rfl rfl)
theorem dJ2_get_1 : decode cJ2_get 1 = .ok (.aload_n 0, 1) := dk_42 (dk_at dksJ2_get_0 1 rfl rfl)
theorem dJ2_get_2 : decode cJ2_get 2 = .ok (.getfield 48, 3) := dk_180 0 48 (dk_at dksJ2_get_0 2 rfl rfl)
theorem dJ2_get_5 : decode cJ2_get 5 = .ok (.invokestatic 118, 3) := dk_184 0 118 (dk_at dksJ2_get_0 5 rfl rfl)
theorem dJ2_get_8 : decode cJ2_get 8 = .ok (.pop, 1) := dk_87 (dk_at dksJ2_get_0 8 rfl rfl)
theorem dJ2_get_9 : decode cJ2_get 9 = .ok (.aload_n 0, 1) := dk_42 (dk_at dksJ2_get_0 9 rfl rfl)
theorem dJ2_get_10 : decode cJ2_get 10 = .ok (.iload_n 1, 1) := dk_27 (dk_at dksJ2_get_0 10 rfl rfl)
theorem dJ2_get_11 : decode cJ2_get 11 = .ok (.invokevirtual 123, 3) := dk_182 0 123 (dk_at dksJ2_get_0 11 rfl rfl)
theorem dJ2_get_14 : decode cJ2_get 14 = .ok (.areturn, 1) := dk_176 (dk_at dksJ2_get_0 14 rfl rfl)
abbrev cJ2_iterator : ByteArray := prog_50_method_55_code
def yJ2_iterator : MethodName := ⟨RJ2, "iterator", "()Ljava/util/Iterator;"⟩
def dkwJ2_iterator_0 : List UInt8 := [187, 1, 11, 89, 42, 183, 1, 13, 176]
abbrev dktJ2_iterator_0 : List UInt8 := dkwJ2_iterator_0 ++ []
theorem dksJ2_iterator_0 : cJ2_iterator.data.toList.drop 0 = dktJ2_iterator_0 := by decide +kernel
theorem dJ2_iterator_0 : decode cJ2_iterator 0 = .ok (.new 267, 3) := dk_187 1 11 (dk_at dksJ2_iterator_0 0 rfl rfl)
theorem dJ2_iterator_3 : decode cJ2_iterator 3 = .ok (.dup, 1) := dk_89 (dk_at dksJ2_iterator_0 3 rfl rfl)
theorem dJ2_iterator_4 : decode cJ2_iterator 4 = .ok (.aload_n 0, 1) := dk_42 (dk_at dksJ2_iterator_0 4 rfl rfl)
theorem dJ2_iterator_5 : decode cJ2_iterator 5 = .ok (.invokespecial 269, 3) := dk_183 1 13 (dk_at dksJ2_iterator_0 5 rfl rfl)
theorem dJ2_iterator_8 : decode cJ2_iterator 8 = .ok (.areturn, 1) := dk_176 (dk_at dksJ2_iterator_0 8 rfl rfl)
abbrev cJ2_remove : ByteArray := prog_50_method_29_code
def yJ2_remove : MethodName := ⟨RJ2, "remove", "(I)Ljava/lang/Object;"⟩
def dkwJ2_remove_1 : List UInt8 := [45, 176]
abbrev dktJ2_remove_1 : List UInt8 := dkwJ2_remove_1 ++ []
def dkwJ2_remove_0 : List UInt8 := [27, 42, 180, 0, 48, 184, 0, 118, 87, 42, 180, 0, 9, 77, 44, 27, 50, 78, 42, 44, 27, 182, 0, 144]
abbrev dktJ2_remove_0 : List UInt8 := dkwJ2_remove_0 ++ dktJ2_remove_1
theorem dksJ2_remove_0 : cJ2_remove.data.toList.drop 0 = dktJ2_remove_0 := by decide +kernel
theorem dksJ2_remove_1 : cJ2_remove.data.toList.drop 24 = dktJ2_remove_1 := dk_seg dksJ2_remove_0 24 rfl rfl
theorem dJ2_remove_0 : decode cJ2_remove 0 = .ok (.iload_n 1, 1) := dk_27 (dk_at dksJ2_remove_0 0 rfl rfl)
theorem dJ2_remove_1 : decode cJ2_remove 1 = .ok (.aload_n 0, 1) := dk_42 (dk_at dksJ2_remove_0 1 rfl rfl)
theorem dJ2_remove_2 : decode cJ2_remove 2 = .ok (.getfield 48, 3) := dk_180 0 48 (dk_at dksJ2_remove_0 2 rfl rfl)
theorem dJ2_remove_5 : decode cJ2_remove 5 = .ok (.invokestatic 118, 3) := dk_184 0 118 (dk_at dksJ2_remove_0 5 rfl rfl)
theorem dJ2_remove_8 : decode cJ2_remove 8 = .ok (.pop, 1) := dk_87 (dk_at dksJ2_remove_0 8 rfl rfl)
theorem dJ2_remove_9 : decode cJ2_remove 9 = .ok (.aload_n 0, 1) := dk_42 (dk_at dksJ2_remove_0 9 rfl rfl)
theorem dJ2_remove_10 : decode cJ2_remove 10 = .ok (.getfield 9, 3) := dk_180 0 9 (dk_at dksJ2_remove_0 10 rfl rfl)
theorem dJ2_remove_13 : decode cJ2_remove 13 = .ok (.astore_n 2, 1) := dk_77 (dk_at dksJ2_remove_0 13 rfl rfl)
theorem dJ2_remove_14 : decode cJ2_remove 14 = .ok (.aload_n 2, 1) := dk_44 (dk_at dksJ2_remove_0 14 rfl rfl)
theorem dJ2_remove_15 : decode cJ2_remove 15 = .ok (.iload_n 1, 1) := dk_27 (dk_at dksJ2_remove_0 15 rfl rfl)
theorem dJ2_remove_16 : decode cJ2_remove 16 = .ok (.aaload, 1) := dk_50 (dk_at dksJ2_remove_0 16 rfl rfl)
theorem dJ2_remove_17 : decode cJ2_remove 17 = .ok (.astore_n 3, 1) := dk_78 (dk_at dksJ2_remove_0 17 rfl rfl)
theorem dJ2_remove_18 : decode cJ2_remove 18 = .ok (.aload_n 0, 1) := dk_42 (dk_at dksJ2_remove_0 18 rfl rfl)
theorem dJ2_remove_19 : decode cJ2_remove 19 = .ok (.aload_n 2, 1) := dk_44 (dk_at dksJ2_remove_0 19 rfl rfl)
theorem dJ2_remove_20 : decode cJ2_remove 20 = .ok (.iload_n 1, 1) := dk_27 (dk_at dksJ2_remove_0 20 rfl rfl)
theorem dJ2_remove_21 : decode cJ2_remove 21 = .ok (.invokevirtual 144, 3) := dk_182 0 144 (dk_at dksJ2_remove_0 21 rfl rfl)
theorem dJ2_remove_24 : decode cJ2_remove 24 = .ok (.aload_n 3, 1) := dk_45 (dk_at dksJ2_remove_1 0 rfl rfl)
theorem dJ2_remove_25 : decode cJ2_remove 25 = .ok (.areturn, 1) := dk_176 (dk_at dksJ2_remove_1 1 rfl rfl)
abbrev cJ2_fastRemove : ByteArray := prog_50_method_39_code
def yJ2_fastRemove : MethodName := ⟨RJ2, "fastRemove", "([Ljava/lang/Object;I)V"⟩
def dkwJ2_fastRemove_1 : List UInt8 := [4, 96, 43, 28, 29, 28, 100, 184, 0, 112, 43, 42, 29, 90, 181, 0, 48, 1, 83, 177]
abbrev dktJ2_fastRemove_1 : List UInt8 := dkwJ2_fastRemove_1 ++ []
def dkwJ2_fastRemove_0 : List UInt8 := [42, 89, 180, 0, 63, 4, 96, 181, 0, 63, 42, 180, 0, 48, 4, 100, 89, 62, 28, 164, 0, 15, 43, 28]
abbrev dktJ2_fastRemove_0 : List UInt8 := dkwJ2_fastRemove_0 ++ dktJ2_fastRemove_1
theorem dksJ2_fastRemove_0 : cJ2_fastRemove.data.toList.drop 0 = dktJ2_fastRemove_0 := by decide +kernel
theorem dksJ2_fastRemove_1 : cJ2_fastRemove.data.toList.drop 24 = dktJ2_fastRemove_1 := dk_seg dksJ2_fastRemove_0 24 rfl rfl
theorem dJ2_fastRemove_0 : decode cJ2_fastRemove 0 = .ok (.aload_n 0, 1) := dk_42 (dk_at dksJ2_fastRemove_0 0 rfl rfl)
theorem dJ2_fastRemove_1 : decode cJ2_fastRemove 1 = .ok (.dup, 1) := dk_89 (dk_at dksJ2_fastRemove_0 1 rfl rfl)
theorem dJ2_fastRemove_2 : decode cJ2_fastRemove 2 = .ok (.getfield 63, 3) := dk_180 0 63 (dk_at dksJ2_fastRemove_0 2 rfl rfl)
theorem dJ2_fastRemove_5 : decode cJ2_fastRemove 5 = .ok (.iconst 1, 1) := dk_4 (dk_at dksJ2_fastRemove_0 5 rfl rfl)
theorem dJ2_fastRemove_6 : decode cJ2_fastRemove 6 = .ok (.iadd, 1) := dk_96 (dk_at dksJ2_fastRemove_0 6 rfl rfl)
theorem dJ2_fastRemove_7 : decode cJ2_fastRemove 7 = .ok (.putfield 63, 3) := dk_181 0 63 (dk_at dksJ2_fastRemove_0 7 rfl rfl)
theorem dJ2_fastRemove_10 : decode cJ2_fastRemove 10 = .ok (.aload_n 0, 1) := dk_42 (dk_at dksJ2_fastRemove_0 10 rfl rfl)
theorem dJ2_fastRemove_11 : decode cJ2_fastRemove 11 = .ok (.getfield 48, 3) := dk_180 0 48 (dk_at dksJ2_fastRemove_0 11 rfl rfl)
theorem dJ2_fastRemove_14 : decode cJ2_fastRemove 14 = .ok (.iconst 1, 1) := dk_4 (dk_at dksJ2_fastRemove_0 14 rfl rfl)
theorem dJ2_fastRemove_15 : decode cJ2_fastRemove 15 = .ok (.isub, 1) := dk_100 (dk_at dksJ2_fastRemove_0 15 rfl rfl)
theorem dJ2_fastRemove_16 : decode cJ2_fastRemove 16 = .ok (.dup, 1) := dk_89 (dk_at dksJ2_fastRemove_0 16 rfl rfl)
theorem dJ2_fastRemove_17 : decode cJ2_fastRemove 17 = .ok (.istore_n 3, 1) := dk_62 (dk_at dksJ2_fastRemove_0 17 rfl rfl)
theorem dJ2_fastRemove_18 : decode cJ2_fastRemove 18 = .ok (.iload_n 2, 1) := dk_28 (dk_at dksJ2_fastRemove_0 18 rfl rfl)
theorem dJ2_fastRemove_19 : decode cJ2_fastRemove 19 = .ok (.if_icmp .le 15, 3) := dk_164 0 15 (dk_at dksJ2_fastRemove_0 19 rfl rfl)
theorem dJ2_fastRemove_22 : decode cJ2_fastRemove 22 = .ok (.aload_n 1, 1) := dk_43 (dk_at dksJ2_fastRemove_0 22 rfl rfl)
theorem dJ2_fastRemove_23 : decode cJ2_fastRemove 23 = .ok (.iload_n 2, 1) := dk_28 (dk_at dksJ2_fastRemove_0 23 rfl rfl)
theorem dJ2_fastRemove_24 : decode cJ2_fastRemove 24 = .ok (.iconst 1, 1) := dk_4 (dk_at dksJ2_fastRemove_1 0 rfl rfl)
theorem dJ2_fastRemove_25 : decode cJ2_fastRemove 25 = .ok (.iadd, 1) := dk_96 (dk_at dksJ2_fastRemove_1 1 rfl rfl)
theorem dJ2_fastRemove_26 : decode cJ2_fastRemove 26 = .ok (.aload_n 1, 1) := dk_43 (dk_at dksJ2_fastRemove_1 2 rfl rfl)
theorem dJ2_fastRemove_27 : decode cJ2_fastRemove 27 = .ok (.iload_n 2, 1) := dk_28 (dk_at dksJ2_fastRemove_1 3 rfl rfl)
theorem dJ2_fastRemove_28 : decode cJ2_fastRemove 28 = .ok (.iload_n 3, 1) := dk_29 (dk_at dksJ2_fastRemove_1 4 rfl rfl)
theorem dJ2_fastRemove_29 : decode cJ2_fastRemove 29 = .ok (.iload_n 2, 1) := dk_28 (dk_at dksJ2_fastRemove_1 5 rfl rfl)
theorem dJ2_fastRemove_30 : decode cJ2_fastRemove 30 = .ok (.isub, 1) := dk_100 (dk_at dksJ2_fastRemove_1 6 rfl rfl)
theorem dJ2_fastRemove_31 : decode cJ2_fastRemove 31 = .ok (.invokestatic 112, 3) := dk_184 0 112 (dk_at dksJ2_fastRemove_1 7 rfl rfl)
theorem dJ2_fastRemove_34 : decode cJ2_fastRemove 34 = .ok (.aload_n 1, 1) := dk_43 (dk_at dksJ2_fastRemove_1 10 rfl rfl)
theorem dJ2_fastRemove_35 : decode cJ2_fastRemove 35 = .ok (.aload_n 0, 1) := dk_42 (dk_at dksJ2_fastRemove_1 11 rfl rfl)
theorem dJ2_fastRemove_36 : decode cJ2_fastRemove 36 = .ok (.iload_n 3, 1) := dk_29 (dk_at dksJ2_fastRemove_1 12 rfl rfl)
theorem dJ2_fastRemove_37 : decode cJ2_fastRemove 37 = .ok (.dup_x1, 1) := dk_90 (dk_at dksJ2_fastRemove_1 13 rfl rfl)
theorem dJ2_fastRemove_38 : decode cJ2_fastRemove 38 = .ok (.putfield 48, 3) := dk_181 0 48 (dk_at dksJ2_fastRemove_1 14 rfl rfl)
theorem dJ2_fastRemove_41 : decode cJ2_fastRemove 41 = .ok (.aconst_null, 1) := dk_1 (dk_at dksJ2_fastRemove_1 17 rfl rfl)
theorem dJ2_fastRemove_42 : decode cJ2_fastRemove 42 = .ok (.aastore, 1) := dk_83 (dk_at dksJ2_fastRemove_1 18 rfl rfl)
theorem dJ2_fastRemove_43 : decode cJ2_fastRemove 43 = .ok (.return_, 1) := dk_177 (dk_at dksJ2_fastRemove_1 19 rfl rfl)
abbrev cJ2_isEmpty : ByteArray := prog_50_method_9_code
def yJ2_isEmpty : MethodName := ⟨RJ2, "isEmpty", "()Z"⟩
def dkwJ2_isEmpty_0 : List UInt8 := [42, 180, 0, 48, 154, 0, 7, 4, 167, 0, 4, 3, 172]
abbrev dktJ2_isEmpty_0 : List UInt8 := dkwJ2_isEmpty_0 ++ []
theorem dksJ2_isEmpty_0 : cJ2_isEmpty.data.toList.drop 0 = dktJ2_isEmpty_0 := by decide +kernel
theorem dJ2_isEmpty_0 : decode cJ2_isEmpty 0 = .ok (.aload_n 0, 1) := dk_42 (dk_at dksJ2_isEmpty_0 0 rfl rfl)
theorem dJ2_isEmpty_1 : decode cJ2_isEmpty 1 = .ok (.getfield 48, 3) := dk_180 0 48 (dk_at dksJ2_isEmpty_0 1 rfl rfl)
theorem dJ2_isEmpty_4 : decode cJ2_isEmpty 4 = .ok (.ifCond .ne 7, 3) := dk_154 0 7 (dk_at dksJ2_isEmpty_0 4 rfl rfl)
theorem dJ2_isEmpty_7 : decode cJ2_isEmpty 7 = .ok (.iconst 1, 1) := dk_4 (dk_at dksJ2_isEmpty_0 7 rfl rfl)
theorem dJ2_isEmpty_8 : decode cJ2_isEmpty 8 = .ok (.goto 4, 3) := dk_167 0 4 (dk_at dksJ2_isEmpty_0 8 rfl rfl)
theorem dJ2_isEmpty_11 : decode cJ2_isEmpty 11 = .ok (.iconst 0, 1) := dk_3 (dk_at dksJ2_isEmpty_0 11 rfl rfl)
theorem dJ2_isEmpty_12 : decode cJ2_isEmpty 12 = .ok (.ireturn, 1) := dk_172 (dk_at dksJ2_isEmpty_0 12 rfl rfl)
abbrev cJ2_clear : ByteArray := prog_50_method_40_code
def yJ2_clear : MethodName := ⟨RJ2, "clear", "()V"⟩
def dkwJ2_clear_1 : List UInt8 := [181, 0, 48, 62, 29, 28, 162, 0, 13, 43, 29, 1, 83, 132, 3, 1, 167, 255, 244, 177]
abbrev dktJ2_clear_1 : List UInt8 := dkwJ2_clear_1 ++ []
def dkwJ2_clear_0 : List UInt8 := [42, 89, 180, 0, 63, 4, 96, 181, 0, 63, 42, 180, 0, 9, 76, 42, 180, 0, 48, 61, 42, 3, 90]
abbrev dktJ2_clear_0 : List UInt8 := dkwJ2_clear_0 ++ dktJ2_clear_1
theorem dksJ2_clear_0 : cJ2_clear.data.toList.drop 0 = dktJ2_clear_0 := by decide +kernel
theorem dksJ2_clear_1 : cJ2_clear.data.toList.drop 23 = dktJ2_clear_1 := dk_seg dksJ2_clear_0 23 rfl rfl
theorem dJ2_clear_0 : decode cJ2_clear 0 = .ok (.aload_n 0, 1) := dk_42 (dk_at dksJ2_clear_0 0 rfl rfl)
theorem dJ2_clear_1 : decode cJ2_clear 1 = .ok (.dup, 1) := dk_89 (dk_at dksJ2_clear_0 1 rfl rfl)
theorem dJ2_clear_2 : decode cJ2_clear 2 = .ok (.getfield 63, 3) := dk_180 0 63 (dk_at dksJ2_clear_0 2 rfl rfl)
theorem dJ2_clear_5 : decode cJ2_clear 5 = .ok (.iconst 1, 1) := dk_4 (dk_at dksJ2_clear_0 5 rfl rfl)
theorem dJ2_clear_6 : decode cJ2_clear 6 = .ok (.iadd, 1) := dk_96 (dk_at dksJ2_clear_0 6 rfl rfl)
theorem dJ2_clear_7 : decode cJ2_clear 7 = .ok (.putfield 63, 3) := dk_181 0 63 (dk_at dksJ2_clear_0 7 rfl rfl)
theorem dJ2_clear_10 : decode cJ2_clear 10 = .ok (.aload_n 0, 1) := dk_42 (dk_at dksJ2_clear_0 10 rfl rfl)
theorem dJ2_clear_11 : decode cJ2_clear 11 = .ok (.getfield 9, 3) := dk_180 0 9 (dk_at dksJ2_clear_0 11 rfl rfl)
theorem dJ2_clear_14 : decode cJ2_clear 14 = .ok (.astore_n 1, 1) := dk_76 (dk_at dksJ2_clear_0 14 rfl rfl)
theorem dJ2_clear_15 : decode cJ2_clear 15 = .ok (.aload_n 0, 1) := dk_42 (dk_at dksJ2_clear_0 15 rfl rfl)
theorem dJ2_clear_16 : decode cJ2_clear 16 = .ok (.getfield 48, 3) := dk_180 0 48 (dk_at dksJ2_clear_0 16 rfl rfl)
theorem dJ2_clear_19 : decode cJ2_clear 19 = .ok (.istore_n 2, 1) := dk_61 (dk_at dksJ2_clear_0 19 rfl rfl)
theorem dJ2_clear_20 : decode cJ2_clear 20 = .ok (.aload_n 0, 1) := dk_42 (dk_at dksJ2_clear_0 20 rfl rfl)
theorem dJ2_clear_21 : decode cJ2_clear 21 = .ok (.iconst 0, 1) := dk_3 (dk_at dksJ2_clear_0 21 rfl rfl)
theorem dJ2_clear_22 : decode cJ2_clear 22 = .ok (.dup_x1, 1) := dk_90 (dk_at dksJ2_clear_0 22 rfl rfl)
theorem dJ2_clear_23 : decode cJ2_clear 23 = .ok (.putfield 48, 3) := dk_181 0 48 (dk_at dksJ2_clear_1 0 rfl rfl)
theorem dJ2_clear_26 : decode cJ2_clear 26 = .ok (.istore_n 3, 1) := dk_62 (dk_at dksJ2_clear_1 3 rfl rfl)
theorem dJ2_clear_27 : decode cJ2_clear 27 = .ok (.iload_n 3, 1) := dk_29 (dk_at dksJ2_clear_1 4 rfl rfl)
theorem dJ2_clear_28 : decode cJ2_clear 28 = .ok (.iload_n 2, 1) := dk_28 (dk_at dksJ2_clear_1 5 rfl rfl)
theorem dJ2_clear_29 : decode cJ2_clear 29 = .ok (.if_icmp .ge 13, 3) := dk_162 0 13 (dk_at dksJ2_clear_1 6 rfl rfl)
theorem dJ2_clear_32 : decode cJ2_clear 32 = .ok (.aload_n 1, 1) := dk_43 (dk_at dksJ2_clear_1 9 rfl rfl)
theorem dJ2_clear_33 : decode cJ2_clear 33 = .ok (.iload_n 3, 1) := dk_29 (dk_at dksJ2_clear_1 10 rfl rfl)
theorem dJ2_clear_34 : decode cJ2_clear 34 = .ok (.aconst_null, 1) := dk_1 (dk_at dksJ2_clear_1 11 rfl rfl)
theorem dJ2_clear_35 : decode cJ2_clear 35 = .ok (.aastore, 1) := dk_83 (dk_at dksJ2_clear_1 12 rfl rfl)
theorem dJ2_clear_36 : decode cJ2_clear 36 = .ok (.iinc 3 1, 3) := dk_132 3 1 (dk_at dksJ2_clear_1 13 rfl rfl)
theorem dJ2_clear_39 : decode cJ2_clear 39 = .ok (.goto (-12), 3) := dk_167 255 244 (dk_at dksJ2_clear_1 16 rfl rfl)
theorem dJ2_clear_42 : decode cJ2_clear 42 = .ok (.return_, 1) := dk_177 (dk_at dksJ2_clear_1 19 rfl rfl)
abbrev cJ2_addAll : ByteArray := prog_50_method_41_code
def yJ2_addAll : MethodName := ⟨RJ2, "addAll", "(Ljava/util/Collection;)Z"⟩
def dkwJ2_addAll_3 : List UInt8 := [181, 0, 48, 4, 172]
abbrev dktJ2_addAll_3 : List UInt8 := dkwJ2_addAll_3 ++ []
def dkwJ2_addAll_2 : List UInt8 := [21, 5, 29, 96, 182, 0, 69, 58, 4, 44, 3, 25, 4, 21, 5, 29, 184, 0, 112, 42, 21, 5, 29, 96]
abbrev dktJ2_addAll_2 : List UInt8 := dkwJ2_addAll_2 ++ dktJ2_addAll_3
def dkwJ2_addAll_1 : List UInt8 := [3, 172, 29, 42, 180, 0, 9, 89, 58, 4, 190, 42, 180, 0, 48, 89, 54, 5, 100, 164, 0, 13, 42]
abbrev dktJ2_addAll_1 : List UInt8 := dkwJ2_addAll_1 ++ dktJ2_addAll_2
def dkwJ2_addAll_0 : List UInt8 := [43, 185, 0, 42, 1, 0, 77, 42, 89, 180, 0, 63, 4, 96, 181, 0, 63, 44, 190, 62, 29, 154, 0, 5]
abbrev dktJ2_addAll_0 : List UInt8 := dkwJ2_addAll_0 ++ dktJ2_addAll_1
theorem dksJ2_addAll_0 : cJ2_addAll.data.toList.drop 0 = dktJ2_addAll_0 := by decide +kernel
theorem dksJ2_addAll_1 : cJ2_addAll.data.toList.drop 24 = dktJ2_addAll_1 := dk_seg dksJ2_addAll_0 24 rfl rfl
theorem dksJ2_addAll_2 : cJ2_addAll.data.toList.drop 47 = dktJ2_addAll_2 := dk_seg dksJ2_addAll_1 23 rfl rfl
theorem dksJ2_addAll_3 : cJ2_addAll.data.toList.drop 71 = dktJ2_addAll_3 := dk_seg dksJ2_addAll_2 24 rfl rfl
theorem dJ2_addAll_0 : decode cJ2_addAll 0 = .ok (.aload_n 1, 1) := dk_43 (dk_at dksJ2_addAll_0 0 rfl rfl)
theorem dJ2_addAll_1 : decode cJ2_addAll 1 = .ok (.invokeinterface 42 1, 5) := by decide +kernel
theorem dJ2_addAll_6 : decode cJ2_addAll 6 = .ok (.astore_n 2, 1) := dk_77 (dk_at dksJ2_addAll_0 6 rfl rfl)
theorem dJ2_addAll_7 : decode cJ2_addAll 7 = .ok (.aload_n 0, 1) := dk_42 (dk_at dksJ2_addAll_0 7 rfl rfl)
theorem dJ2_addAll_8 : decode cJ2_addAll 8 = .ok (.dup, 1) := dk_89 (dk_at dksJ2_addAll_0 8 rfl rfl)
theorem dJ2_addAll_9 : decode cJ2_addAll 9 = .ok (.getfield 63, 3) := dk_180 0 63 (dk_at dksJ2_addAll_0 9 rfl rfl)
theorem dJ2_addAll_12 : decode cJ2_addAll 12 = .ok (.iconst 1, 1) := dk_4 (dk_at dksJ2_addAll_0 12 rfl rfl)
theorem dJ2_addAll_13 : decode cJ2_addAll 13 = .ok (.iadd, 1) := dk_96 (dk_at dksJ2_addAll_0 13 rfl rfl)
theorem dJ2_addAll_14 : decode cJ2_addAll 14 = .ok (.putfield 63, 3) := dk_181 0 63 (dk_at dksJ2_addAll_0 14 rfl rfl)
theorem dJ2_addAll_17 : decode cJ2_addAll 17 = .ok (.aload_n 2, 1) := dk_44 (dk_at dksJ2_addAll_0 17 rfl rfl)
theorem dJ2_addAll_18 : decode cJ2_addAll 18 = .ok (.arraylength, 1) := dk_190 (dk_at dksJ2_addAll_0 18 rfl rfl)
theorem dJ2_addAll_19 : decode cJ2_addAll 19 = .ok (.istore_n 3, 1) := dk_62 (dk_at dksJ2_addAll_0 19 rfl rfl)
theorem dJ2_addAll_20 : decode cJ2_addAll 20 = .ok (.iload_n 3, 1) := dk_29 (dk_at dksJ2_addAll_0 20 rfl rfl)
theorem dJ2_addAll_21 : decode cJ2_addAll 21 = .ok (.ifCond .ne 5, 3) := dk_154 0 5 (dk_at dksJ2_addAll_0 21 rfl rfl)
theorem dJ2_addAll_24 : decode cJ2_addAll 24 = .ok (.iconst 0, 1) := dk_3 (dk_at dksJ2_addAll_1 0 rfl rfl)
theorem dJ2_addAll_25 : decode cJ2_addAll 25 = .ok (.ireturn, 1) := dk_172 (dk_at dksJ2_addAll_1 1 rfl rfl)
theorem dJ2_addAll_26 : decode cJ2_addAll 26 = .ok (.iload_n 3, 1) := dk_29 (dk_at dksJ2_addAll_1 2 rfl rfl)
theorem dJ2_addAll_27 : decode cJ2_addAll 27 = .ok (.aload_n 0, 1) := dk_42 (dk_at dksJ2_addAll_1 3 rfl rfl)
theorem dJ2_addAll_28 : decode cJ2_addAll 28 = .ok (.getfield 9, 3) := dk_180 0 9 (dk_at dksJ2_addAll_1 4 rfl rfl)
theorem dJ2_addAll_31 : decode cJ2_addAll 31 = .ok (.dup, 1) := dk_89 (dk_at dksJ2_addAll_1 7 rfl rfl)
theorem dJ2_addAll_32 : decode cJ2_addAll 32 = .ok (.astore 4, 2) := dk_58 4 (dk_at dksJ2_addAll_1 8 rfl rfl)
theorem dJ2_addAll_34 : decode cJ2_addAll 34 = .ok (.arraylength, 1) := dk_190 (dk_at dksJ2_addAll_1 10 rfl rfl)
theorem dJ2_addAll_35 : decode cJ2_addAll 35 = .ok (.aload_n 0, 1) := dk_42 (dk_at dksJ2_addAll_1 11 rfl rfl)
theorem dJ2_addAll_36 : decode cJ2_addAll 36 = .ok (.getfield 48, 3) := dk_180 0 48 (dk_at dksJ2_addAll_1 12 rfl rfl)
theorem dJ2_addAll_39 : decode cJ2_addAll 39 = .ok (.dup, 1) := dk_89 (dk_at dksJ2_addAll_1 15 rfl rfl)
theorem dJ2_addAll_40 : decode cJ2_addAll 40 = .ok (.istore 5, 2) := dk_54 5 (dk_at dksJ2_addAll_1 16 rfl rfl)
theorem dJ2_addAll_42 : decode cJ2_addAll 42 = .ok (.isub, 1) := dk_100 (dk_at dksJ2_addAll_1 18 rfl rfl)
theorem dJ2_addAll_43 : decode cJ2_addAll 43 = .ok (.if_icmp .le 13, 3) := dk_164 0 13 (dk_at dksJ2_addAll_1 19 rfl rfl)
theorem dJ2_addAll_46 : decode cJ2_addAll 46 = .ok (.aload_n 0, 1) := dk_42 (dk_at dksJ2_addAll_1 22 rfl rfl)
theorem dJ2_addAll_47 : decode cJ2_addAll 47 = .ok (.iload 5, 2) := dk_21 5 (dk_at dksJ2_addAll_2 0 rfl rfl)
theorem dJ2_addAll_49 : decode cJ2_addAll 49 = .ok (.iload_n 3, 1) := dk_29 (dk_at dksJ2_addAll_2 2 rfl rfl)
theorem dJ2_addAll_50 : decode cJ2_addAll 50 = .ok (.iadd, 1) := dk_96 (dk_at dksJ2_addAll_2 3 rfl rfl)
theorem dJ2_addAll_51 : decode cJ2_addAll 51 = .ok (.invokevirtual 69, 3) := dk_182 0 69 (dk_at dksJ2_addAll_2 4 rfl rfl)
theorem dJ2_addAll_54 : decode cJ2_addAll 54 = .ok (.astore 4, 2) := dk_58 4 (dk_at dksJ2_addAll_2 7 rfl rfl)
theorem dJ2_addAll_56 : decode cJ2_addAll 56 = .ok (.aload_n 2, 1) := dk_44 (dk_at dksJ2_addAll_2 9 rfl rfl)
theorem dJ2_addAll_57 : decode cJ2_addAll 57 = .ok (.iconst 0, 1) := dk_3 (dk_at dksJ2_addAll_2 10 rfl rfl)
theorem dJ2_addAll_58 : decode cJ2_addAll 58 = .ok (.aload 4, 2) := dk_25 4 (dk_at dksJ2_addAll_2 11 rfl rfl)
theorem dJ2_addAll_60 : decode cJ2_addAll 60 = .ok (.iload 5, 2) := dk_21 5 (dk_at dksJ2_addAll_2 13 rfl rfl)
theorem dJ2_addAll_62 : decode cJ2_addAll 62 = .ok (.iload_n 3, 1) := dk_29 (dk_at dksJ2_addAll_2 15 rfl rfl)
theorem dJ2_addAll_63 : decode cJ2_addAll 63 = .ok (.invokestatic 112, 3) := dk_184 0 112 (dk_at dksJ2_addAll_2 16 rfl rfl)
theorem dJ2_addAll_66 : decode cJ2_addAll 66 = .ok (.aload_n 0, 1) := dk_42 (dk_at dksJ2_addAll_2 19 rfl rfl)
theorem dJ2_addAll_67 : decode cJ2_addAll 67 = .ok (.iload 5, 2) := dk_21 5 (dk_at dksJ2_addAll_2 20 rfl rfl)
theorem dJ2_addAll_69 : decode cJ2_addAll 69 = .ok (.iload_n 3, 1) := dk_29 (dk_at dksJ2_addAll_2 22 rfl rfl)
theorem dJ2_addAll_70 : decode cJ2_addAll 70 = .ok (.iadd, 1) := dk_96 (dk_at dksJ2_addAll_2 23 rfl rfl)
theorem dJ2_addAll_71 : decode cJ2_addAll 71 = .ok (.putfield 48, 3) := dk_181 0 48 (dk_at dksJ2_addAll_3 0 rfl rfl)
theorem dJ2_addAll_74 : decode cJ2_addAll 74 = .ok (.iconst 1, 1) := dk_4 (dk_at dksJ2_addAll_3 3 rfl rfl)
theorem dJ2_addAll_75 : decode cJ2_addAll 75 = .ok (.ireturn, 1) := dk_172 (dk_at dksJ2_addAll_3 4 rfl rfl)
abbrev cJ2_toArray : ByteArray := prog_50_method_16_code
def yJ2_toArray : MethodName := ⟨RJ2, "toArray", "()[Ljava/lang/Object;"⟩
def dkwJ2_toArray_0 : List UInt8 := [42, 180, 0, 9, 42, 180, 0, 48, 184, 0, 66, 176]
abbrev dktJ2_toArray_0 : List UInt8 := dkwJ2_toArray_0 ++ []
theorem dksJ2_toArray_0 : cJ2_toArray.data.toList.drop 0 = dktJ2_toArray_0 := by decide +kernel
theorem dJ2_toArray_0 : decode cJ2_toArray 0 = .ok (.aload_n 0, 1) := dk_42 (dk_at dksJ2_toArray_0 0 rfl rfl)
theorem dJ2_toArray_1 : decode cJ2_toArray 1 = .ok (.getfield 9, 3) := dk_180 0 9 (dk_at dksJ2_toArray_0 1 rfl rfl)
theorem dJ2_toArray_4 : decode cJ2_toArray 4 = .ok (.aload_n 0, 1) := dk_42 (dk_at dksJ2_toArray_0 4 rfl rfl)
theorem dJ2_toArray_5 : decode cJ2_toArray 5 = .ok (.getfield 48, 3) := dk_180 0 48 (dk_at dksJ2_toArray_0 5 rfl rfl)
theorem dJ2_toArray_8 : decode cJ2_toArray 8 = .ok (.invokestatic 66, 3) := dk_184 0 66 (dk_at dksJ2_toArray_0 8 rfl rfl)
theorem dJ2_toArray_11 : decode cJ2_toArray 11 = .ok (.areturn, 1) := dk_176 (dk_at dksJ2_toArray_0 11 rfl rfl)
theorem q130 : (Jvm.Cond.initialized "java/util/ArrayList") ∈ lw_all := lw_g (lw_at lw_m1 5 rfl) rfl
theorem q189 : (Jvm.Cond.instantiable "java/util/ArrayList" (3 : Nat)) ∈ lw_all := lw_g (lw_at lw_m1 64 rfl) rfl
theorem q191 : (Jvm.Cond.instanceMethod ({ cls := "java/util/ArrayList", name := "<init>", desc := "(I)V" } : Jvm.MethodName)) ∈ lw_all := lw_g (lw_at lw_m1 66 rfl) rfl
theorem q192 : (Jvm.Cond.code ({ cls := "java/util/ArrayList", name := "<init>", desc := "(I)V" } : Jvm.MethodName) prog_50_method_1_code (2 : Nat) (Option.none : Option Jvm.ClassFile.FieldType)) ∈ lw_all := lw_g (lw_at lw_m1 67 rfl) rfl
theorem q193 : (Jvm.Cond.methodLink "java/util/ArrayList" (1 : Nat) ({ cls := "java/util/AbstractList", name := "<init>", desc := "()V" } : Jvm.MethodName)) ∈ lw_all := lw_g (lw_at lw_m1 68 rfl) rfl
theorem q200 : (Jvm.Cond.classLink "java/util/ArrayList" (7 : Nat) "java/lang/Object") ∈ lw_all := lw_g (lw_at lw_m1 75 rfl) rfl
theorem q202 : (Jvm.Cond.fieldLink "java/util/ArrayList" (15 : Nat) "java/util/ArrayList" "EMPTY_ELEMENTDATA" "[Ljava/lang/Object;") ∈ lw_all := lw_g (lw_at lw_m1 77 rfl) rfl
theorem q203 : (Jvm.Cond.laysStatic "java/util/ArrayList" "EMPTY_ELEMENTDATA" "[Ljava/lang/Object;") ∈ lw_tbl := lw_at lw_m1 78 rfl
theorem q204 : (Jvm.Cond.fieldLink "java/util/ArrayList" (9 : Nat) "java/util/ArrayList" "elementData" "[Ljava/lang/Object;") ∈ lw_all := lw_g (lw_at lw_m1 79 rfl) rfl
theorem q207 : (Jvm.Cond.fieldLink "java/util/ArrayList" (48 : Nat) "java/util/ArrayList" "size" "I") ∈ lw_all := lw_g (lw_at lw_m1 82 rfl) rfl
theorem q210 : (Jvm.Cond.sameField "java/util/ArrayList" "java/util/AbstractList" "modCount" "I") ∈ lw_all := lw_g (lw_at lw_m1 85 rfl) rfl
theorem q211 : (Jvm.Cond.fieldLink "java/util/ArrayList" (63 : Nat) "java/util/ArrayList" "modCount" "I") ∈ lw_all := lw_g (lw_at lw_m1 86 rfl) rfl
theorem q212 : (Jvm.Cond.lays "java/util/ArrayList" "java/util/ArrayList" "elementData" "[Ljava/lang/Object;") ∈ lw_all := lw_g (lw_at lw_m1 87 rfl) rfl
theorem q213 : (Jvm.Cond.soleField "java/util/ArrayList" "elementData") ∈ lw_all := lw_g (lw_at lw_m1 88 rfl) rfl
theorem q214 : (Jvm.Cond.lays "java/util/ArrayList" "java/util/ArrayList" "size" "I") ∈ lw_all := lw_g (lw_at lw_m1 89 rfl) rfl
theorem q215 : (Jvm.Cond.soleField "java/util/ArrayList" "size") ∈ lw_all := lw_g (lw_at lw_m1 90 rfl) rfl
theorem q216 : (Jvm.Cond.lays "java/util/ArrayList" "java/util/AbstractList" "modCount" "I") ∈ lw_all := lw_g (lw_at lw_m1 91 rfl) rfl
theorem q218 : (Jvm.Cond.superclass "java/util/ArrayList" "java/util/AbstractList") ∈ lw_all := lw_g (lw_at lw_m1 93 rfl) rfl
theorem q278 : (Jvm.Cond.instanceMethod ({ cls := "java/util/ArrayList", name := "size", desc := "()I" } : Jvm.MethodName)) ∈ lw_all := lw_g (lw_at lw_m1 153 rfl) rfl
theorem q279 : (Jvm.Cond.selects "java/util/ArrayList" ({ cls := "java/util/ArrayList", name := "size", desc := "()I" } : Jvm.MethodName) ({ cls := "java/util/ArrayList", name := "size", desc := "()I" } : Jvm.MethodName)) ∈ lw_all := lw_g (lw_at lw_m1 154 rfl) rfl
theorem q280 : (Jvm.Cond.code ({ cls := "java/util/ArrayList", name := "size", desc := "()I" } : Jvm.MethodName) prog_50_method_8_code (1 : Nat) (Option.some Jvm.ClassFile.FieldType.int)) ∈ lw_all := lw_g (lw_at lw_m1 155 rfl) rfl
theorem q520 : (Jvm.Cond.instanceMethod ({ cls := "java/util/ArrayList", name := "<init>", desc := "()V" } : Jvm.MethodName)) ∈ lw_all := lw_g (lw_at lw_m2 155 rfl) rfl
theorem q521 : (Jvm.Cond.code ({ cls := "java/util/ArrayList", name := "<init>", desc := "()V" } : Jvm.MethodName) prog_50_method_2_code (1 : Nat) (Option.none : Option Jvm.ClassFile.FieldType)) ∈ lw_all := lw_g (lw_at lw_m2 156 rfl) rfl
theorem q522 : (Jvm.Cond.fieldLink "java/util/ArrayList" (39 : Nat) "java/util/ArrayList" "DEFAULTCAPACITY_EMPTY_ELEMENTDATA" "[Ljava/lang/Object;") ∈ lw_all := lw_g (lw_at lw_m2 157 rfl) rfl
theorem q523 : (Jvm.Cond.laysStatic "java/util/ArrayList" "DEFAULTCAPACITY_EMPTY_ELEMENTDATA" "[Ljava/lang/Object;") ∈ lw_tbl := lw_at lw_m2 158 rfl
theorem q734 : (Jvm.Cond.instanceMethod ({ cls := "java/util/ArrayList", name := "add", desc := "(Ljava/lang/Object;)Z" } : Jvm.MethodName)) ∈ lw_all := lw_g (lw_at lw_m3 129 rfl) rfl
theorem q735 : (Jvm.Cond.selects "java/util/ArrayList" ({ cls := "java/util/ArrayList", name := "add", desc := "(Ljava/lang/Object;)Z" } : Jvm.MethodName) ({ cls := "java/util/ArrayList", name := "add", desc := "(Ljava/lang/Object;)Z" } : Jvm.MethodName)) ∈ lw_all := lw_g (lw_at lw_m3 130 rfl) rfl
theorem q736 : (Jvm.Cond.code ({ cls := "java/util/ArrayList", name := "add", desc := "(Ljava/lang/Object;)Z" } : Jvm.MethodName) prog_50_method_25_code (2 : Nat) (Option.some Jvm.ClassFile.FieldType.boolean)) ∈ lw_all := lw_g (lw_at lw_m3 131 rfl) rfl
theorem q737 : (Jvm.Cond.methodLink "java/util/ArrayList" (131 : Nat) ({ cls := "java/util/ArrayList", name := "add", desc := "(Ljava/lang/Object;[Ljava/lang/Object;I)V" } : Jvm.MethodName)) ∈ lw_all := lw_g (lw_at lw_m3 132 rfl) rfl
theorem q738 : (Jvm.Cond.privateMethod ({ cls := "java/util/ArrayList", name := "add", desc := "(Ljava/lang/Object;[Ljava/lang/Object;I)V" } : Jvm.MethodName)) ∈ lw_tbl := lw_at lw_m3 133 rfl
theorem q739 : (Jvm.Cond.instanceMethod ({ cls := "java/util/ArrayList", name := "add", desc := "(Ljava/lang/Object;[Ljava/lang/Object;I)V" } : Jvm.MethodName)) ∈ lw_all := lw_g (lw_at lw_m3 134 rfl) rfl
theorem q740 : (Jvm.Cond.code ({ cls := "java/util/ArrayList", name := "add", desc := "(Ljava/lang/Object;[Ljava/lang/Object;I)V" } : Jvm.MethodName) prog_50_method_24_code (4 : Nat) (Option.none : Option Jvm.ClassFile.FieldType)) ∈ lw_all := lw_g (lw_at lw_m3 135 rfl) rfl
theorem q741 : (Jvm.Cond.methodLink "java/util/ArrayList" (129 : Nat) ({ cls := "java/util/ArrayList", name := "grow", desc := "()[Ljava/lang/Object;" } : Jvm.MethodName)) ∈ lw_all := lw_g (lw_at lw_m3 136 rfl) rfl
theorem q742 : (Jvm.Cond.privateMethod ({ cls := "java/util/ArrayList", name := "grow", desc := "()[Ljava/lang/Object;" } : Jvm.MethodName)) ∈ lw_tbl := lw_at lw_m3 137 rfl
theorem q743 : (Jvm.Cond.instanceMethod ({ cls := "java/util/ArrayList", name := "grow", desc := "()[Ljava/lang/Object;" } : Jvm.MethodName)) ∈ lw_all := lw_g (lw_at lw_m3 138 rfl) rfl
theorem q744 : (Jvm.Cond.code ({ cls := "java/util/ArrayList", name := "grow", desc := "()[Ljava/lang/Object;" } : Jvm.MethodName) prog_50_method_7_code (1 : Nat) (Option.some (Jvm.ClassFile.FieldType.array (Jvm.ClassFile.FieldType.object "java/lang/Object")))) ∈ lw_all := lw_g (lw_at lw_m3 139 rfl) rfl
theorem q745 : (Jvm.Cond.methodLink "java/util/ArrayList" (69 : Nat) ({ cls := "java/util/ArrayList", name := "grow", desc := "(I)[Ljava/lang/Object;" } : Jvm.MethodName)) ∈ lw_all := lw_g (lw_at lw_m3 140 rfl) rfl
theorem q746 : (Jvm.Cond.privateMethod ({ cls := "java/util/ArrayList", name := "grow", desc := "(I)[Ljava/lang/Object;" } : Jvm.MethodName)) ∈ lw_tbl := lw_at lw_m3 141 rfl
theorem q747 : (Jvm.Cond.instanceMethod ({ cls := "java/util/ArrayList", name := "grow", desc := "(I)[Ljava/lang/Object;" } : Jvm.MethodName)) ∈ lw_all := lw_g (lw_at lw_m3 142 rfl) rfl
theorem q748 : (Jvm.Cond.code ({ cls := "java/util/ArrayList", name := "grow", desc := "(I)[Ljava/lang/Object;" } : Jvm.MethodName) prog_50_method_6_code (4 : Nat) (Option.some (Jvm.ClassFile.FieldType.array (Jvm.ClassFile.FieldType.object "java/lang/Object")))) ∈ lw_all := lw_g (lw_at lw_m3 143 rfl) rfl
theorem q749 : (Jvm.Cond.methodLink "java/util/ArrayList" (73 : Nat) ({ cls := "jdk/internal/util/ArraysSupport", name := "newLength", desc := "(III)I" } : Jvm.MethodName)) ∈ lw_all := lw_g (lw_at lw_m3 144 rfl) rfl
theorem q750 : (Jvm.Cond.methodLink "java/util/ArrayList" (66 : Nat) ({ cls := "java/util/Arrays", name := "copyOf", desc := "([Ljava/lang/Object;I)[Ljava/lang/Object;" } : Jvm.MethodName)) ∈ lw_all := lw_g (lw_at lw_m3 145 rfl) rfl
theorem q782 : (Jvm.Cond.selects "java/util/ArrayList" ({ cls := "java/lang/Object", name := "getClass", desc := "()Ljava/lang/Class;" } : Jvm.MethodName) ({ cls := "java/lang/Object", name := "getClass", desc := "()Ljava/lang/Class;" } : Jvm.MethodName)) ∈ lw_all := lw_g (lw_at lw_m3 177 rfl) rfl
theorem q791 : (Jvm.Cond.methodLink "java/util/ArrayList" (79 : Nat) ({ cls := "java/lang/Math", name := "max", desc := "(II)I" } : Jvm.MethodName)) ∈ lw_all := lw_g (lw_at lw_m3 186 rfl) rfl
theorem q960 : (Jvm.Cond.instanceMethod ({ cls := "java/util/ArrayList", name := "set", desc := "(ILjava/lang/Object;)Ljava/lang/Object;" } : Jvm.MethodName)) ∈ lw_all := lw_g (lw_at lw_m4 115 rfl) rfl
theorem q961 : (Jvm.Cond.selects "java/util/ArrayList" ({ cls := "java/util/ArrayList", name := "set", desc := "(ILjava/lang/Object;)Ljava/lang/Object;" } : Jvm.MethodName) ({ cls := "java/util/ArrayList", name := "set", desc := "(ILjava/lang/Object;)Ljava/lang/Object;" } : Jvm.MethodName)) ∈ lw_all := lw_g (lw_at lw_m4 116 rfl) rfl
theorem q962 : (Jvm.Cond.code ({ cls := "java/util/ArrayList", name := "set", desc := "(ILjava/lang/Object;)Ljava/lang/Object;" } : Jvm.MethodName) prog_50_method_23_code (4 : Nat) (Option.some (Jvm.ClassFile.FieldType.object "java/lang/Object"))) ∈ lw_all := lw_g (lw_at lw_m4 117 rfl) rfl
theorem q963 : (Jvm.Cond.methodLink "java/util/ArrayList" (118 : Nat) ({ cls := "java/util/Objects", name := "checkIndex", desc := "(II)I" } : Jvm.MethodName)) ∈ lw_all := lw_g (lw_at lw_m4 118 rfl) rfl
theorem q967 : (Jvm.Cond.methodLink "java/util/ArrayList" (123 : Nat) ({ cls := "java/util/ArrayList", name := "elementData", desc := "(I)Ljava/lang/Object;" } : Jvm.MethodName)) ∈ lw_all := lw_g (lw_at lw_m4 122 rfl) rfl
theorem q968 : (Jvm.Cond.instanceMethod ({ cls := "java/util/ArrayList", name := "elementData", desc := "(I)Ljava/lang/Object;" } : Jvm.MethodName)) ∈ lw_all := lw_g (lw_at lw_m4 123 rfl) rfl
theorem q969 : (Jvm.Cond.selects "java/util/ArrayList" ({ cls := "java/util/ArrayList", name := "elementData", desc := "(I)Ljava/lang/Object;" } : Jvm.MethodName) ({ cls := "java/util/ArrayList", name := "elementData", desc := "(I)Ljava/lang/Object;" } : Jvm.MethodName)) ∈ lw_all := lw_g (lw_at lw_m4 124 rfl) rfl
theorem q970 : (Jvm.Cond.code ({ cls := "java/util/ArrayList", name := "elementData", desc := "(I)Ljava/lang/Object;" } : Jvm.MethodName) prog_50_method_18_code (2 : Nat) (Option.some (Jvm.ClassFile.FieldType.object "java/lang/Object"))) ∈ lw_all := lw_g (lw_at lw_m4 125 rfl) rfl
theorem q1038 : (Jvm.Cond.instanceMethod ({ cls := "java/util/ArrayList", name := "get", desc := "(I)Ljava/lang/Object;" } : Jvm.MethodName)) ∈ lw_all := lw_g (lw_at lw_m4 193 rfl) rfl
theorem q1039 : (Jvm.Cond.selects "java/util/ArrayList" ({ cls := "java/util/ArrayList", name := "get", desc := "(I)Ljava/lang/Object;" } : Jvm.MethodName) ({ cls := "java/util/ArrayList", name := "get", desc := "(I)Ljava/lang/Object;" } : Jvm.MethodName)) ∈ lw_all := lw_g (lw_at lw_m4 194 rfl) rfl
theorem q1040 : (Jvm.Cond.code ({ cls := "java/util/ArrayList", name := "get", desc := "(I)Ljava/lang/Object;" } : Jvm.MethodName) prog_50_method_20_code (2 : Nat) (Option.some (Jvm.ClassFile.FieldType.object "java/lang/Object"))) ∈ lw_all := lw_g (lw_at lw_m4 195 rfl) rfl
theorem q1243 : (Jvm.Cond.instanceMethod ({ cls := "java/util/ArrayList", name := "iterator", desc := "()Ljava/util/Iterator;" } : Jvm.MethodName)) ∈ lw_all := lw_g (lw_at lw_m5 158 rfl) rfl
theorem q1244 : (Jvm.Cond.selects "java/util/ArrayList" ({ cls := "java/util/ArrayList", name := "iterator", desc := "()Ljava/util/Iterator;" } : Jvm.MethodName) ({ cls := "java/util/ArrayList", name := "iterator", desc := "()Ljava/util/Iterator;" } : Jvm.MethodName)) ∈ lw_all := lw_g (lw_at lw_m5 159 rfl) rfl
theorem q1245 : (Jvm.Cond.code ({ cls := "java/util/ArrayList", name := "iterator", desc := "()Ljava/util/Iterator;" } : Jvm.MethodName) prog_50_method_55_code (1 : Nat) (Option.some (Jvm.ClassFile.FieldType.object "java/util/Iterator"))) ∈ lw_all := lw_g (lw_at lw_m5 160 rfl) rfl
theorem q1246 : (Jvm.Cond.classLink "java/util/ArrayList" (267 : Nat) "java/util/ArrayList$Itr") ∈ lw_all := lw_g (lw_at lw_m5 161 rfl) rfl
theorem q1248 : (Jvm.Cond.methodLink "java/util/ArrayList" (269 : Nat) ({ cls := "java/util/ArrayList$Itr", name := "<init>", desc := "(Ljava/util/ArrayList;)V" } : Jvm.MethodName)) ∈ lw_all := lw_g (lw_at lw_m5 163 rfl) rfl
theorem q1617 : (Jvm.Cond.instanceMethod ({ cls := "java/util/ArrayList", name := "remove", desc := "(I)Ljava/lang/Object;" } : Jvm.MethodName)) ∈ lw_all := lw_g (lw_at lw_m7 52 rfl) rfl
theorem q1618 : (Jvm.Cond.selects "java/util/ArrayList" ({ cls := "java/util/ArrayList", name := "remove", desc := "(I)Ljava/lang/Object;" } : Jvm.MethodName) ({ cls := "java/util/ArrayList", name := "remove", desc := "(I)Ljava/lang/Object;" } : Jvm.MethodName)) ∈ lw_all := lw_g (lw_at lw_m7 53 rfl) rfl
theorem q1619 : (Jvm.Cond.code ({ cls := "java/util/ArrayList", name := "remove", desc := "(I)Ljava/lang/Object;" } : Jvm.MethodName) prog_50_method_29_code (4 : Nat) (Option.some (Jvm.ClassFile.FieldType.object "java/lang/Object"))) ∈ lw_all := lw_g (lw_at lw_m7 54 rfl) rfl
theorem q1620 : (Jvm.Cond.methodLink "java/util/ArrayList" (144 : Nat) ({ cls := "java/util/ArrayList", name := "fastRemove", desc := "([Ljava/lang/Object;I)V" } : Jvm.MethodName)) ∈ lw_all := lw_g (lw_at lw_m7 55 rfl) rfl
theorem q1621 : (Jvm.Cond.privateMethod ({ cls := "java/util/ArrayList", name := "fastRemove", desc := "([Ljava/lang/Object;I)V" } : Jvm.MethodName)) ∈ lw_tbl := lw_at lw_m7 56 rfl
theorem q1622 : (Jvm.Cond.instanceMethod ({ cls := "java/util/ArrayList", name := "fastRemove", desc := "([Ljava/lang/Object;I)V" } : Jvm.MethodName)) ∈ lw_all := lw_g (lw_at lw_m7 57 rfl) rfl
theorem q1623 : (Jvm.Cond.code ({ cls := "java/util/ArrayList", name := "fastRemove", desc := "([Ljava/lang/Object;I)V" } : Jvm.MethodName) prog_50_method_39_code (4 : Nat) (Option.none : Option Jvm.ClassFile.FieldType)) ∈ lw_all := lw_g (lw_at lw_m7 58 rfl) rfl
theorem q1624 : (Jvm.Cond.methodLink "java/util/ArrayList" (112 : Nat) ({ cls := "java/lang/System", name := "arraycopy", desc := "(Ljava/lang/Object;ILjava/lang/Object;II)V" } : Jvm.MethodName)) ∈ lw_all := lw_g (lw_at lw_m7 59 rfl) rfl
theorem q1895 : (Jvm.Cond.instanceMethod ({ cls := "java/util/ArrayList", name := "isEmpty", desc := "()Z" } : Jvm.MethodName)) ∈ lw_all := lw_g (lw_at lw_m8 90 rfl) rfl
theorem q1896 : (Jvm.Cond.selects "java/util/ArrayList" ({ cls := "java/util/ArrayList", name := "isEmpty", desc := "()Z" } : Jvm.MethodName) ({ cls := "java/util/ArrayList", name := "isEmpty", desc := "()Z" } : Jvm.MethodName)) ∈ lw_all := lw_g (lw_at lw_m8 91 rfl) rfl
theorem q1897 : (Jvm.Cond.code ({ cls := "java/util/ArrayList", name := "isEmpty", desc := "()Z" } : Jvm.MethodName) prog_50_method_9_code (1 : Nat) (Option.some Jvm.ClassFile.FieldType.boolean)) ∈ lw_all := lw_g (lw_at lw_m8 92 rfl) rfl
theorem q2143 : (Jvm.Cond.instanceMethod ({ cls := "java/util/ArrayList", name := "clear", desc := "()V" } : Jvm.MethodName)) ∈ lw_all := lw_g (lw_at lw_m9 98 rfl) rfl
theorem q2144 : (Jvm.Cond.selects "java/util/ArrayList" ({ cls := "java/util/ArrayList", name := "clear", desc := "()V" } : Jvm.MethodName) ({ cls := "java/util/ArrayList", name := "clear", desc := "()V" } : Jvm.MethodName)) ∈ lw_all := lw_g (lw_at lw_m9 99 rfl) rfl
theorem q2145 : (Jvm.Cond.code ({ cls := "java/util/ArrayList", name := "clear", desc := "()V" } : Jvm.MethodName) prog_50_method_40_code (4 : Nat) (Option.none : Option Jvm.ClassFile.FieldType)) ∈ lw_all := lw_g (lw_at lw_m9 100 rfl) rfl
theorem q2147 : (Jvm.Cond.instanceMethod ({ cls := "java/util/ArrayList", name := "addAll", desc := "(Ljava/util/Collection;)Z" } : Jvm.MethodName)) ∈ lw_all := lw_g (lw_at lw_m9 102 rfl) rfl
theorem q2148 : (Jvm.Cond.selects "java/util/ArrayList" ({ cls := "java/util/ArrayList", name := "addAll", desc := "(Ljava/util/Collection;)Z" } : Jvm.MethodName) ({ cls := "java/util/ArrayList", name := "addAll", desc := "(Ljava/util/Collection;)Z" } : Jvm.MethodName)) ∈ lw_all := lw_g (lw_at lw_m9 103 rfl) rfl
theorem q2149 : (Jvm.Cond.code ({ cls := "java/util/ArrayList", name := "addAll", desc := "(Ljava/util/Collection;)Z" } : Jvm.MethodName) prog_50_method_41_code (6 : Nat) (Option.some Jvm.ClassFile.FieldType.boolean)) ∈ lw_all := lw_g (lw_at lw_m9 104 rfl) rfl
theorem q2150 : (Jvm.Cond.interfaceEntry "java/util/ArrayList" (42 : Nat)) ∈ lw_tbl := lw_at lw_m9 105 rfl
theorem q2151 : (Jvm.Cond.methodLink "java/util/ArrayList" (42 : Nat) ({ cls := "java/util/Collection", name := "toArray", desc := "()[Ljava/lang/Object;" } : Jvm.MethodName)) ∈ lw_all := lw_g (lw_at lw_m9 106 rfl) rfl
theorem q2154 : (Jvm.Cond.castable "java/util/ArrayList" "java/util/Collection") ∈ lw_tbl := lw_at lw_m9 109 rfl
theorem q2155 : (Jvm.Cond.selects "java/util/ArrayList" ({ cls := "java/util/Collection", name := "toArray", desc := "()[Ljava/lang/Object;" } : Jvm.MethodName) ({ cls := "java/util/ArrayList", name := "toArray", desc := "()[Ljava/lang/Object;" } : Jvm.MethodName)) ∈ lw_all := lw_g (lw_at lw_m9 110 rfl) rfl
theorem q2156 : (Jvm.Cond.unhidden "java/util/ArrayList" "toArray" "()[Ljava/lang/Object;") ∈ lw_tbl := lw_at lw_m9 111 rfl
theorem q2157 : (Jvm.Cond.instanceMethod ({ cls := "java/util/ArrayList", name := "toArray", desc := "()[Ljava/lang/Object;" } : Jvm.MethodName)) ∈ lw_all := lw_g (lw_at lw_m9 112 rfl) rfl
theorem q2158 : (Jvm.Cond.publicMethod ({ cls := "java/util/ArrayList", name := "toArray", desc := "()[Ljava/lang/Object;" } : Jvm.MethodName)) ∈ lw_tbl := lw_at lw_m9 113 rfl
theorem q2159 : (Jvm.Cond.code ({ cls := "java/util/ArrayList", name := "toArray", desc := "()[Ljava/lang/Object;" } : Jvm.MethodName) prog_50_method_16_code (1 : Nat) (Option.some (Jvm.ClassFile.FieldType.array (Jvm.ClassFile.FieldType.object "java/lang/Object")))) ∈ lw_all := lw_g (lw_at lw_m9 114 rfl) rfl
theorem q2977 : (Jvm.Cond.castable "java/util/ArrayList" "java/lang/Object") ∈ lw_tbl := lw_at lw_m12 212 rfl
theorem in_J2 : ∀ w ∈ wsJ20, w ∈ lw_all := lw_in wsJ20 [216, 212, 214] (by decide +kernel) (by decide +kernel)

/-! java/util/ArrayList$Itr -/
set_option maxRecDepth 100000
def RJ20 : String := "java/util/ArrayList$Itr"
def TJ20 : u_T := fun k => match k with
  | 0 => ("java/util/ArrayList$Itr", "cursor", "I", false)
  | 1 => ("java/util/ArrayList$Itr", "lastRet", "I", false)
  | 2 => ("java/util/ArrayList$Itr", "expectedModCount", "I", false)
  | _ => ("java/util/ArrayList$Itr", "this$0", "Ljava/util/ArrayList;", true)
def tyJ20 : Nat → FieldType := fun k => match k with
  | 0 => .int
  | 1 => .int
  | 2 => .int
  | _ => .object "java/util/ArrayList"
abbrev wsJ200 : List Cond := u_ws RJ20 TJ20 4
theorem nmJ20 : ∀ a, a < 4 → ∀ b, b < 4 → a ≠ b → (TJ20 a).2.1 ≠ (TJ20 b).2.1 := by decide +kernel
theorem tyJ20_ok : ∀ k, k < 4 → parseFieldDescriptor (TJ20 k).2.2.1 = some (tyJ20 k) := by decide +kernel
abbrev cJ20_init : ByteArray := prog_51_method_1_code
def yJ20_init : MethodName := ⟨RJ20, "<init>", "(Ljava/util/ArrayList;)V"⟩
def dkwJ20_init_1 : List UInt8 := [181, 0, 22, 177]
abbrev dktJ20_init_1 : List UInt8 := dkwJ20_init_1 ++ []
def dkwJ20_init_0 : List UInt8 := [42, 43, 181, 0, 1, 42, 183, 0, 7, 42, 2, 181, 0, 13, 42, 42, 180, 0, 1, 180, 0, 17]
abbrev dktJ20_init_0 : List UInt8 := dkwJ20_init_0 ++ dktJ20_init_1
theorem dksJ20_init_0 : cJ20_init.data.toList.drop 0 = dktJ20_init_0 := by decide +kernel
theorem dksJ20_init_1 : cJ20_init.data.toList.drop 22 = dktJ20_init_1 := dk_seg dksJ20_init_0 22 rfl rfl
theorem dJ20_init_0 : decode cJ20_init 0 = .ok (.aload_n 0, 1) := dk_42 (dk_at dksJ20_init_0 0 rfl rfl)
theorem dJ20_init_1 : decode cJ20_init 1 = .ok (.aload_n 1, 1) := dk_43 (dk_at dksJ20_init_0 1 rfl rfl)
theorem dJ20_init_2 : decode cJ20_init 2 = .ok (.putfield 1, 3) := dk_181 0 1 (dk_at dksJ20_init_0 2 rfl rfl)
theorem dJ20_init_5 : decode cJ20_init 5 = .ok (.aload_n 0, 1) := dk_42 (dk_at dksJ20_init_0 5 rfl rfl)
theorem dJ20_init_6 : decode cJ20_init 6 = .ok (.invokespecial 7, 3) := dk_183 0 7 (dk_at dksJ20_init_0 6 rfl rfl)
theorem dJ20_init_9 : decode cJ20_init 9 = .ok (.aload_n 0, 1) := dk_42 (dk_at dksJ20_init_0 9 rfl rfl)
theorem dJ20_init_10 : decode cJ20_init 10 = .ok (.iconst (-1), 1) := dk_2 (dk_at dksJ20_init_0 10 rfl rfl)
theorem dJ20_init_11 : decode cJ20_init 11 = .ok (.putfield 13, 3) := dk_181 0 13 (dk_at dksJ20_init_0 11 rfl rfl)
theorem dJ20_init_14 : decode cJ20_init 14 = .ok (.aload_n 0, 1) := dk_42 (dk_at dksJ20_init_0 14 rfl rfl)
theorem dJ20_init_15 : decode cJ20_init 15 = .ok (.aload_n 0, 1) := dk_42 (dk_at dksJ20_init_0 15 rfl rfl)
theorem dJ20_init_16 : decode cJ20_init 16 = .ok (.getfield 1, 3) := dk_180 0 1 (dk_at dksJ20_init_0 16 rfl rfl)
theorem dJ20_init_19 : decode cJ20_init 19 = .ok (.getfield 17, 3) := dk_180 0 17 (dk_at dksJ20_init_0 19 rfl rfl)
theorem dJ20_init_22 : decode cJ20_init 22 = .ok (.putfield 22, 3) := dk_181 0 22 (dk_at dksJ20_init_1 0 rfl rfl)
theorem dJ20_init_25 : decode cJ20_init 25 = .ok (.return_, 1) := dk_177 (dk_at dksJ20_init_1 3 rfl rfl)
abbrev cJ20_hasNext : ByteArray := prog_51_method_2_code
def yJ20_hasNext : MethodName := ⟨RJ20, "hasNext", "()Z"⟩
def dkwJ20_hasNext_0 : List UInt8 := [42, 180, 0, 25, 42, 180, 0, 1, 180, 0, 28, 159, 0, 7, 4, 167, 0, 4, 3, 172]
abbrev dktJ20_hasNext_0 : List UInt8 := dkwJ20_hasNext_0 ++ []
theorem dksJ20_hasNext_0 : cJ20_hasNext.data.toList.drop 0 = dktJ20_hasNext_0 := by decide +kernel
theorem dJ20_hasNext_0 : decode cJ20_hasNext 0 = .ok (.aload_n 0, 1) := dk_42 (dk_at dksJ20_hasNext_0 0 rfl rfl)
theorem dJ20_hasNext_1 : decode cJ20_hasNext 1 = .ok (.getfield 25, 3) := dk_180 0 25 (dk_at dksJ20_hasNext_0 1 rfl rfl)
theorem dJ20_hasNext_4 : decode cJ20_hasNext 4 = .ok (.aload_n 0, 1) := dk_42 (dk_at dksJ20_hasNext_0 4 rfl rfl)
theorem dJ20_hasNext_5 : decode cJ20_hasNext 5 = .ok (.getfield 1, 3) := dk_180 0 1 (dk_at dksJ20_hasNext_0 5 rfl rfl)
theorem dJ20_hasNext_8 : decode cJ20_hasNext 8 = .ok (.getfield 28, 3) := dk_180 0 28 (dk_at dksJ20_hasNext_0 8 rfl rfl)
theorem dJ20_hasNext_11 : decode cJ20_hasNext 11 = .ok (.if_icmp .eq 7, 3) := dk_159 0 7 (dk_at dksJ20_hasNext_0 11 rfl rfl)
theorem dJ20_hasNext_14 : decode cJ20_hasNext 14 = .ok (.iconst 1, 1) := dk_4 (dk_at dksJ20_hasNext_0 14 rfl rfl)
theorem dJ20_hasNext_15 : decode cJ20_hasNext 15 = .ok (.goto 4, 3) := dk_167 0 4 (dk_at dksJ20_hasNext_0 15 rfl rfl)
theorem dJ20_hasNext_18 : decode cJ20_hasNext 18 = .ok (.iconst 0, 1) := dk_3 (dk_at dksJ20_hasNext_0 18 rfl rfl)
theorem dJ20_hasNext_19 : decode cJ20_hasNext 19 = .ok (.ireturn, 1) := dk_172 (dk_at dksJ20_hasNext_0 19 rfl rfl)
abbrev cJ20_next : ByteArray := prog_51_method_3_code
def yJ20_next : MethodName := ⟨RJ20, "next", "()Ljava/lang/Object;"⟩
def dkwJ20_next_2 : List UInt8 := [183, 0, 43, 191, 42, 27, 4, 96, 181, 0, 25, 44, 42, 27, 90, 181, 0, 13, 50, 176]
abbrev dktJ20_next_2 : List UInt8 := dkwJ20_next_2 ++ []
def dkwJ20_next_1 : List UInt8 := [183, 0, 36, 191, 42, 180, 0, 1, 180, 0, 37, 77, 27, 44, 190, 161, 0, 11, 187, 0, 41, 89]
abbrev dktJ20_next_1 : List UInt8 := dkwJ20_next_1 ++ dktJ20_next_2
def dkwJ20_next_0 : List UInt8 := [42, 182, 0, 31, 42, 180, 0, 25, 60, 27, 42, 180, 0, 1, 180, 0, 28, 161, 0, 11, 187, 0, 34, 89]
abbrev dktJ20_next_0 : List UInt8 := dkwJ20_next_0 ++ dktJ20_next_1
theorem dksJ20_next_0 : cJ20_next.data.toList.drop 0 = dktJ20_next_0 := by decide +kernel
theorem dksJ20_next_1 : cJ20_next.data.toList.drop 24 = dktJ20_next_1 := dk_seg dksJ20_next_0 24 rfl rfl
theorem dksJ20_next_2 : cJ20_next.data.toList.drop 46 = dktJ20_next_2 := dk_seg dksJ20_next_1 22 rfl rfl
theorem dJ20_next_0 : decode cJ20_next 0 = .ok (.aload_n 0, 1) := dk_42 (dk_at dksJ20_next_0 0 rfl rfl)
theorem dJ20_next_1 : decode cJ20_next 1 = .ok (.invokevirtual 31, 3) := dk_182 0 31 (dk_at dksJ20_next_0 1 rfl rfl)
theorem dJ20_next_4 : decode cJ20_next 4 = .ok (.aload_n 0, 1) := dk_42 (dk_at dksJ20_next_0 4 rfl rfl)
theorem dJ20_next_5 : decode cJ20_next 5 = .ok (.getfield 25, 3) := dk_180 0 25 (dk_at dksJ20_next_0 5 rfl rfl)
theorem dJ20_next_8 : decode cJ20_next 8 = .ok (.istore_n 1, 1) := dk_60 (dk_at dksJ20_next_0 8 rfl rfl)
theorem dJ20_next_9 : decode cJ20_next 9 = .ok (.iload_n 1, 1) := dk_27 (dk_at dksJ20_next_0 9 rfl rfl)
theorem dJ20_next_10 : decode cJ20_next 10 = .ok (.aload_n 0, 1) := dk_42 (dk_at dksJ20_next_0 10 rfl rfl)
theorem dJ20_next_11 : decode cJ20_next 11 = .ok (.getfield 1, 3) := dk_180 0 1 (dk_at dksJ20_next_0 11 rfl rfl)
theorem dJ20_next_14 : decode cJ20_next 14 = .ok (.getfield 28, 3) := dk_180 0 28 (dk_at dksJ20_next_0 14 rfl rfl)
theorem dJ20_next_17 : decode cJ20_next 17 = .ok (.if_icmp .lt 11, 3) := dk_161 0 11 (dk_at dksJ20_next_0 17 rfl rfl)
theorem dJ20_next_20 : decode cJ20_next 20 = .ok (.new 34, 3) := dk_187 0 34 (dk_at dksJ20_next_0 20 rfl rfl)
theorem dJ20_next_23 : decode cJ20_next 23 = .ok (.dup, 1) := dk_89 (dk_at dksJ20_next_0 23 rfl rfl)
theorem dJ20_next_24 : decode cJ20_next 24 = .ok (.invokespecial 36, 3) := dk_183 0 36 (dk_at dksJ20_next_1 0 rfl rfl)
theorem dJ20_next_27 : decode cJ20_next 27 = .ok (.athrow, 1) := dk_191 (dk_at dksJ20_next_1 3 rfl rfl)
theorem dJ20_next_28 : decode cJ20_next 28 = .ok (.aload_n 0, 1) := dk_42 (dk_at dksJ20_next_1 4 rfl rfl)
theorem dJ20_next_29 : decode cJ20_next 29 = .ok (.getfield 1, 3) := dk_180 0 1 (dk_at dksJ20_next_1 5 rfl rfl)
theorem dJ20_next_32 : decode cJ20_next 32 = .ok (.getfield 37, 3) := dk_180 0 37 (dk_at dksJ20_next_1 8 rfl rfl)
theorem dJ20_next_35 : decode cJ20_next 35 = .ok (.astore_n 2, 1) := dk_77 (dk_at dksJ20_next_1 11 rfl rfl)
theorem dJ20_next_36 : decode cJ20_next 36 = .ok (.iload_n 1, 1) := dk_27 (dk_at dksJ20_next_1 12 rfl rfl)
theorem dJ20_next_37 : decode cJ20_next 37 = .ok (.aload_n 2, 1) := dk_44 (dk_at dksJ20_next_1 13 rfl rfl)
theorem dJ20_next_38 : decode cJ20_next 38 = .ok (.arraylength, 1) := dk_190 (dk_at dksJ20_next_1 14 rfl rfl)
theorem dJ20_next_39 : decode cJ20_next 39 = .ok (.if_icmp .lt 11, 3) := dk_161 0 11 (dk_at dksJ20_next_1 15 rfl rfl)
theorem dJ20_next_42 : decode cJ20_next 42 = .ok (.new 41, 3) := dk_187 0 41 (dk_at dksJ20_next_1 18 rfl rfl)
theorem dJ20_next_45 : decode cJ20_next 45 = .ok (.dup, 1) := dk_89 (dk_at dksJ20_next_1 21 rfl rfl)
theorem dJ20_next_46 : decode cJ20_next 46 = .ok (.invokespecial 43, 3) := dk_183 0 43 (dk_at dksJ20_next_2 0 rfl rfl)
theorem dJ20_next_49 : decode cJ20_next 49 = .ok (.athrow, 1) := dk_191 (dk_at dksJ20_next_2 3 rfl rfl)
theorem dJ20_next_50 : decode cJ20_next 50 = .ok (.aload_n 0, 1) := dk_42 (dk_at dksJ20_next_2 4 rfl rfl)
theorem dJ20_next_51 : decode cJ20_next 51 = .ok (.iload_n 1, 1) := dk_27 (dk_at dksJ20_next_2 5 rfl rfl)
theorem dJ20_next_52 : decode cJ20_next 52 = .ok (.iconst 1, 1) := dk_4 (dk_at dksJ20_next_2 6 rfl rfl)
theorem dJ20_next_53 : decode cJ20_next 53 = .ok (.iadd, 1) := dk_96 (dk_at dksJ20_next_2 7 rfl rfl)
theorem dJ20_next_54 : decode cJ20_next 54 = .ok (.putfield 25, 3) := dk_181 0 25 (dk_at dksJ20_next_2 8 rfl rfl)
theorem dJ20_next_57 : decode cJ20_next 57 = .ok (.aload_n 2, 1) := dk_44 (dk_at dksJ20_next_2 11 rfl rfl)
theorem dJ20_next_58 : decode cJ20_next 58 = .ok (.aload_n 0, 1) := dk_42 (dk_at dksJ20_next_2 12 rfl rfl)
theorem dJ20_next_59 : decode cJ20_next 59 = .ok (.iload_n 1, 1) := dk_27 (dk_at dksJ20_next_2 13 rfl rfl)
theorem dJ20_next_60 : decode cJ20_next 60 = .ok (.dup_x1, 1) := dk_90 (dk_at dksJ20_next_2 14 rfl rfl)
theorem dJ20_next_61 : decode cJ20_next 61 = .ok (.putfield 13, 3) := dk_181 0 13 (dk_at dksJ20_next_2 15 rfl rfl)
theorem dJ20_next_64 : decode cJ20_next 64 = .ok (.aaload, 1) := dk_50 (dk_at dksJ20_next_2 18 rfl rfl)
theorem dJ20_next_65 : decode cJ20_next 65 = .ok (.areturn, 1) := dk_176 (dk_at dksJ20_next_2 19 rfl rfl)
abbrev cJ20_checkForComodification : ByteArray := prog_51_method_6_code
def yJ20_checkForComodification : MethodName := ⟨RJ20, "checkForComodification", "()V"⟩
def dkwJ20_checkForComodification_0 : List UInt8 := [42, 180, 0, 1, 180, 0, 17, 42, 180, 0, 22, 159, 0, 11, 187, 0, 41, 89, 183, 0, 43, 191, 177]
abbrev dktJ20_checkForComodification_0 : List UInt8 := dkwJ20_checkForComodification_0 ++ []
theorem dksJ20_checkForComodification_0 : cJ20_checkForComodification.data.toList.drop 0 = dktJ20_checkForComodification_0 := by decide +kernel
theorem dJ20_checkForComodification_0 : decode cJ20_checkForComodification 0 = .ok (.aload_n 0, 1) := dk_42 (dk_at dksJ20_checkForComodification_0 0 rfl rfl)
theorem dJ20_checkForComodification_1 : decode cJ20_checkForComodification 1 = .ok (.getfield 1, 3) := dk_180 0 1 (dk_at dksJ20_checkForComodification_0 1 rfl rfl)
theorem dJ20_checkForComodification_4 : decode cJ20_checkForComodification 4 = .ok (.getfield 17, 3) := dk_180 0 17 (dk_at dksJ20_checkForComodification_0 4 rfl rfl)
theorem dJ20_checkForComodification_7 : decode cJ20_checkForComodification 7 = .ok (.aload_n 0, 1) := dk_42 (dk_at dksJ20_checkForComodification_0 7 rfl rfl)
theorem dJ20_checkForComodification_8 : decode cJ20_checkForComodification 8 = .ok (.getfield 22, 3) := dk_180 0 22 (dk_at dksJ20_checkForComodification_0 8 rfl rfl)
theorem dJ20_checkForComodification_11 : decode cJ20_checkForComodification 11 = .ok (.if_icmp .eq 11, 3) := dk_159 0 11 (dk_at dksJ20_checkForComodification_0 11 rfl rfl)
theorem dJ20_checkForComodification_14 : decode cJ20_checkForComodification 14 = .ok (.new 41, 3) := dk_187 0 41 (dk_at dksJ20_checkForComodification_0 14 rfl rfl)
theorem dJ20_checkForComodification_17 : decode cJ20_checkForComodification 17 = .ok (.dup, 1) := dk_89 (dk_at dksJ20_checkForComodification_0 17 rfl rfl)
theorem dJ20_checkForComodification_18 : decode cJ20_checkForComodification 18 = .ok (.invokespecial 43, 3) := dk_183 0 43 (dk_at dksJ20_checkForComodification_0 18 rfl rfl)
theorem dJ20_checkForComodification_21 : decode cJ20_checkForComodification 21 = .ok (.athrow, 1) := dk_191 (dk_at dksJ20_checkForComodification_0 21 rfl rfl)
theorem dJ20_checkForComodification_22 : decode cJ20_checkForComodification 22 = .ok (.return_, 1) := dk_177 (dk_at dksJ20_checkForComodification_0 22 rfl rfl)
theorem q171 : (Jvm.Cond.initialized "java/util/ArrayList$Itr") ∈ lw_all := lw_g (lw_at lw_m1 46 rfl) rfl
theorem q205 : (Jvm.Cond.fieldLink "java/util/ArrayList$Itr" (37 : Nat) "java/util/ArrayList" "elementData" "[Ljava/lang/Object;") ∈ lw_all := lw_g (lw_at lw_m1 80 rfl) rfl
theorem q206 : (Jvm.Cond.fieldLinkNest "java/util/ArrayList$Itr" (28 : Nat) "java/util/ArrayList" "size" "I" "java/util/ArrayList") ∈ lw_tbl := lw_at lw_m1 81 rfl
theorem q209 : (Jvm.Cond.fieldLink "java/util/ArrayList$Itr" (17 : Nat) "java/util/ArrayList" "modCount" "I") ∈ lw_all := lw_g (lw_at lw_m1 84 rfl) rfl
theorem q783 : (Jvm.Cond.selects "java/util/ArrayList$Itr" ({ cls := "java/lang/Object", name := "getClass", desc := "()Ljava/lang/Class;" } : Jvm.MethodName) ({ cls := "java/lang/Object", name := "getClass", desc := "()Ljava/lang/Class;" } : Jvm.MethodName)) ∈ lw_all := lw_g (lw_at lw_m3 178 rfl) rfl
theorem q1247 : (Jvm.Cond.instantiable "java/util/ArrayList$Itr" (4 : Nat)) ∈ lw_all := lw_g (lw_at lw_m5 162 rfl) rfl
theorem q1249 : (Jvm.Cond.instanceMethod ({ cls := "java/util/ArrayList$Itr", name := "<init>", desc := "(Ljava/util/ArrayList;)V" } : Jvm.MethodName)) ∈ lw_all := lw_g (lw_at lw_m5 164 rfl) rfl
theorem q1250 : (Jvm.Cond.code ({ cls := "java/util/ArrayList$Itr", name := "<init>", desc := "(Ljava/util/ArrayList;)V" } : Jvm.MethodName) prog_51_method_1_code (2 : Nat) (Option.none : Option Jvm.ClassFile.FieldType)) ∈ lw_all := lw_g (lw_at lw_m5 165 rfl) rfl
theorem q1251 : (Jvm.Cond.methodLink "java/util/ArrayList$Itr" (7 : Nat) ({ cls := "java/lang/Object", name := "<init>", desc := "()V" } : Jvm.MethodName)) ∈ lw_all := lw_g (lw_at lw_m5 166 rfl) rfl
theorem q1252 : (Jvm.Cond.fieldLink "java/util/ArrayList$Itr" (25 : Nat) "java/util/ArrayList$Itr" "cursor" "I") ∈ lw_all := lw_g (lw_at lw_m5 167 rfl) rfl
theorem q1253 : (Jvm.Cond.fieldLink "java/util/ArrayList$Itr" (13 : Nat) "java/util/ArrayList$Itr" "lastRet" "I") ∈ lw_all := lw_g (lw_at lw_m5 168 rfl) rfl
theorem q1254 : (Jvm.Cond.fieldLink "java/util/ArrayList$Itr" (22 : Nat) "java/util/ArrayList$Itr" "expectedModCount" "I") ∈ lw_all := lw_g (lw_at lw_m5 169 rfl) rfl
theorem q1255 : (Jvm.Cond.fieldLink "java/util/ArrayList$Itr" (1 : Nat) "java/util/ArrayList$Itr" "this$0" "Ljava/util/ArrayList;") ∈ lw_all := lw_g (lw_at lw_m5 170 rfl) rfl
theorem q1256 : (Jvm.Cond.lays "java/util/ArrayList$Itr" "java/util/ArrayList$Itr" "cursor" "I") ∈ lw_all := lw_g (lw_at lw_m5 171 rfl) rfl
theorem q1257 : (Jvm.Cond.soleField "java/util/ArrayList$Itr" "cursor") ∈ lw_all := lw_g (lw_at lw_m5 172 rfl) rfl
theorem q1258 : (Jvm.Cond.lays "java/util/ArrayList$Itr" "java/util/ArrayList$Itr" "lastRet" "I") ∈ lw_all := lw_g (lw_at lw_m5 173 rfl) rfl
theorem q1259 : (Jvm.Cond.soleField "java/util/ArrayList$Itr" "lastRet") ∈ lw_all := lw_g (lw_at lw_m5 174 rfl) rfl
theorem q1260 : (Jvm.Cond.lays "java/util/ArrayList$Itr" "java/util/ArrayList$Itr" "expectedModCount" "I") ∈ lw_all := lw_g (lw_at lw_m5 175 rfl) rfl
theorem q1261 : (Jvm.Cond.soleField "java/util/ArrayList$Itr" "expectedModCount") ∈ lw_all := lw_g (lw_at lw_m5 176 rfl) rfl
theorem q1262 : (Jvm.Cond.laysFinal "java/util/ArrayList$Itr" "java/util/ArrayList$Itr" "this$0" "Ljava/util/ArrayList;") ∈ lw_all := lw_g (lw_at lw_m5 177 rfl) rfl
theorem q1263 : (Jvm.Cond.soleField "java/util/ArrayList$Itr" "this$0") ∈ lw_all := lw_g (lw_at lw_m5 178 rfl) rfl
theorem q1264 : (Jvm.Cond.superclass "java/util/ArrayList$Itr" "java/lang/Object") ∈ lw_all := lw_g (lw_at lw_m5 179 rfl) rfl
theorem q1269 : (Jvm.Cond.castable "java/util/ArrayList$Itr" "java/util/Iterator") ∈ lw_tbl := lw_at lw_m5 184 rfl
theorem q1270 : (Jvm.Cond.selects "java/util/ArrayList$Itr" ({ cls := "java/util/Iterator", name := "hasNext", desc := "()Z" } : Jvm.MethodName) ({ cls := "java/util/ArrayList$Itr", name := "hasNext", desc := "()Z" } : Jvm.MethodName)) ∈ lw_all := lw_g (lw_at lw_m5 185 rfl) rfl
theorem q1271 : (Jvm.Cond.unhidden "java/util/ArrayList$Itr" "hasNext" "()Z") ∈ lw_tbl := lw_at lw_m5 186 rfl
theorem q1272 : (Jvm.Cond.instanceMethod ({ cls := "java/util/ArrayList$Itr", name := "hasNext", desc := "()Z" } : Jvm.MethodName)) ∈ lw_all := lw_g (lw_at lw_m5 187 rfl) rfl
theorem q1273 : (Jvm.Cond.publicMethod ({ cls := "java/util/ArrayList$Itr", name := "hasNext", desc := "()Z" } : Jvm.MethodName)) ∈ lw_tbl := lw_at lw_m5 188 rfl
theorem q1274 : (Jvm.Cond.code ({ cls := "java/util/ArrayList$Itr", name := "hasNext", desc := "()Z" } : Jvm.MethodName) prog_51_method_2_code (1 : Nat) (Option.some Jvm.ClassFile.FieldType.boolean)) ∈ lw_all := lw_g (lw_at lw_m5 189 rfl) rfl
theorem q1279 : (Jvm.Cond.selects "java/util/ArrayList$Itr" ({ cls := "java/util/Iterator", name := "next", desc := "()Ljava/lang/Object;" } : Jvm.MethodName) ({ cls := "java/util/ArrayList$Itr", name := "next", desc := "()Ljava/lang/Object;" } : Jvm.MethodName)) ∈ lw_all := lw_g (lw_at lw_m5 194 rfl) rfl
theorem q1280 : (Jvm.Cond.unhidden "java/util/ArrayList$Itr" "next" "()Ljava/lang/Object;") ∈ lw_tbl := lw_at lw_m5 195 rfl
theorem q1281 : (Jvm.Cond.instanceMethod ({ cls := "java/util/ArrayList$Itr", name := "next", desc := "()Ljava/lang/Object;" } : Jvm.MethodName)) ∈ lw_all := lw_g (lw_at lw_m5 196 rfl) rfl
theorem q1282 : (Jvm.Cond.publicMethod ({ cls := "java/util/ArrayList$Itr", name := "next", desc := "()Ljava/lang/Object;" } : Jvm.MethodName)) ∈ lw_tbl := lw_at lw_m5 197 rfl
theorem q1283 : (Jvm.Cond.code ({ cls := "java/util/ArrayList$Itr", name := "next", desc := "()Ljava/lang/Object;" } : Jvm.MethodName) prog_51_method_3_code (3 : Nat) (Option.some (Jvm.ClassFile.FieldType.object "java/lang/Object"))) ∈ lw_all := lw_g (lw_at lw_m5 198 rfl) rfl
theorem q1284 : (Jvm.Cond.methodLink "java/util/ArrayList$Itr" (31 : Nat) ({ cls := "java/util/ArrayList$Itr", name := "checkForComodification", desc := "()V" } : Jvm.MethodName)) ∈ lw_all := lw_g (lw_at lw_m5 199 rfl) rfl
theorem q1285 : (Jvm.Cond.instanceMethod ({ cls := "java/util/ArrayList$Itr", name := "checkForComodification", desc := "()V" } : Jvm.MethodName)) ∈ lw_all := lw_g (lw_at lw_m5 200 rfl) rfl
theorem q1286 : (Jvm.Cond.selects "java/util/ArrayList$Itr" ({ cls := "java/util/ArrayList$Itr", name := "checkForComodification", desc := "()V" } : Jvm.MethodName) ({ cls := "java/util/ArrayList$Itr", name := "checkForComodification", desc := "()V" } : Jvm.MethodName)) ∈ lw_all := lw_g (lw_at lw_m5 201 rfl) rfl
theorem q1287 : (Jvm.Cond.code ({ cls := "java/util/ArrayList$Itr", name := "checkForComodification", desc := "()V" } : Jvm.MethodName) prog_51_method_6_code (1 : Nat) (Option.none : Option Jvm.ClassFile.FieldType)) ∈ lw_all := lw_g (lw_at lw_m5 202 rfl) rfl
theorem q2998 : (Jvm.Cond.castable "java/util/ArrayList$Itr" "java/lang/Object") ∈ lw_tbl := lw_at lw_m12 233 rfl
theorem in_J20 : ∀ w ∈ wsJ200, w ∈ lw_all := lw_in wsJ200 [1256, 1258, 1260, 1262] (by decide +kernel) (by decide +kernel)

/-! java/lang/Object -/
set_option maxRecDepth 100000
def RJ21 : String := "java/lang/Object"
abbrev cJ21_init : ByteArray := object_method_1_code
def yJ21_init : MethodName := ⟨RJ21, "<init>", "()V"⟩
theorem dJ21_init_0 : decode cJ21_init 0 = .ok (.return_, 1) := by decide +kernel
theorem q180 : (Jvm.Cond.instanceMethod ({ cls := "java/lang/Object", name := "<init>", desc := "()V" } : Jvm.MethodName)) ∈ lw_all := lw_g (lw_at lw_m1 55 rfl) rfl
theorem q181 : (Jvm.Cond.code ({ cls := "java/lang/Object", name := "<init>", desc := "()V" } : Jvm.MethodName) object_method_1_code (1 : Nat) (Option.none : Option Jvm.ClassFile.FieldType)) ∈ lw_all := lw_g (lw_at lw_m1 56 rfl) rfl
theorem q383 : (Jvm.Cond.native ({ cls := "java/lang/Object", name := "clone", desc := "()Ljava/lang/Object;" } : Jvm.MethodName)) ∈ lw_all := lw_g (lw_at lw_m2 18 rfl) rfl
theorem q384 : (Jvm.Cond.instanceMethod ({ cls := "java/lang/Object", name := "clone", desc := "()Ljava/lang/Object;" } : Jvm.MethodName)) ∈ lw_all := lw_g (lw_at lw_m2 19 rfl) rfl
theorem q754 : (Jvm.Cond.instanceMethod ({ cls := "java/lang/Object", name := "getClass", desc := "()Ljava/lang/Class;" } : Jvm.MethodName)) ∈ lw_all := lw_g (lw_at lw_m3 149 rfl) rfl
theorem q755 : (Jvm.Cond.sameMethod "java/lang/Object" "java/lang/Object" "getClass" "()Ljava/lang/Class;") ∈ lw_all := lw_g (lw_at lw_m3 150 rfl) rfl
theorem q785 : (Jvm.Cond.native ({ cls := "java/lang/Object", name := "getClass", desc := "()Ljava/lang/Class;" } : Jvm.MethodName)) ∈ lw_all := lw_g (lw_at lw_m3 180 rfl) rfl
theorem q2972 : (Jvm.Cond.initialized "java/lang/Object") ∈ lw_all := lw_g (lw_at lw_m12 207 rfl) rfl
theorem q3005 : (Jvm.Cond.declares ({ cls := "java/lang/Object", name := "getClass", desc := "()Ljava/lang/Class;" } : Jvm.MethodName)) ∈ lw_tbl := lw_at lw_m13 0 rfl

/-! java/lang/Enum -/
set_option maxRecDepth 100000
def RJ3 : String := "java/lang/Enum"
abbrev cJ3_ordinal : ByteArray := prog_32_method_2_code
def yJ3_ordinal : MethodName := ⟨RJ3, "ordinal", "()I"⟩
theorem dJ3_ordinal_0 : decode cJ3_ordinal 0 = .ok (.aload_n 0, 1) := by decide +kernel
theorem dJ3_ordinal_1 : decode cJ3_ordinal 1 = .ok (.getfield 7, 3) := by decide +kernel
theorem dJ3_ordinal_4 : decode cJ3_ordinal 4 = .ok (.ireturn, 1) := by decide +kernel
theorem q134 : (Jvm.Cond.initialized "java/lang/Enum") ∈ lw_all := lw_g (lw_at lw_m1 9 rfl) rfl
theorem q1498 : (Jvm.Cond.declares ({ cls := "java/lang/Enum", name := "ordinal", desc := "()I" } : Jvm.MethodName)) ∈ lw_tbl := lw_at lw_m6 173 rfl
theorem q1500 : (Jvm.Cond.instanceMethod ({ cls := "java/lang/Enum", name := "ordinal", desc := "()I" } : Jvm.MethodName)) ∈ lw_all := lw_g (lw_at lw_m6 175 rfl) rfl
theorem q1501 : (Jvm.Cond.code ({ cls := "java/lang/Enum", name := "ordinal", desc := "()I" } : Jvm.MethodName) prog_32_method_2_code (1 : Nat) (Option.some Jvm.ClassFile.FieldType.int)) ∈ lw_all := lw_g (lw_at lw_m6 176 rfl) rfl
theorem q3015 : (Jvm.Cond.fieldLink "java/lang/Enum" (7 : Nat) "java/lang/Enum" "ordinal" "I") ∈ lw_all := lw_g (lw_at lw_m13 10 rfl) rfl

/-! java/lang/AbstractStringBuilder -/
set_option maxRecDepth 100000
def RJ4 : String := "java/lang/AbstractStringBuilder"
abbrev cJ4_init : ByteArray := prog_27_method_2_code
def yJ4_init : MethodName := ⟨RJ4, "<init>", "(I)V"⟩
def dkwJ4_init_1 : List UInt8 := [167, 0, 16, 42, 27, 184, 0, 26, 181, 0, 15, 42, 4, 181, 0, 22, 177]
abbrev dktJ4_init_1 : List UInt8 := dkwJ4_init_1 ++ []
def dkwJ4_init_0 : List UInt8 := [42, 183, 0, 3, 178, 0, 18, 153, 0, 18, 42, 27, 188, 8, 181, 0, 15, 42, 3, 181, 0, 22]
abbrev dktJ4_init_0 : List UInt8 := dkwJ4_init_0 ++ dktJ4_init_1
theorem dksJ4_init_0 : cJ4_init.data.toList.drop 0 = dktJ4_init_0 := by decide +kernel
theorem dksJ4_init_1 : cJ4_init.data.toList.drop 22 = dktJ4_init_1 := dk_seg dksJ4_init_0 22 rfl rfl
theorem dJ4_init_0 : decode cJ4_init 0 = .ok (.aload_n 0, 1) := dk_42 (dk_at dksJ4_init_0 0 rfl rfl)
theorem dJ4_init_1 : decode cJ4_init 1 = .ok (.invokespecial 3, 3) := dk_183 0 3 (dk_at dksJ4_init_0 1 rfl rfl)
theorem dJ4_init_4 : decode cJ4_init 4 = .ok (.getstatic 18, 3) := dk_178 0 18 (dk_at dksJ4_init_0 4 rfl rfl)
theorem dJ4_init_7 : decode cJ4_init 7 = .ok (.ifCond .eq 18, 3) := dk_153 0 18 (dk_at dksJ4_init_0 7 rfl rfl)
theorem dJ4_init_10 : decode cJ4_init 10 = .ok (.aload_n 0, 1) := dk_42 (dk_at dksJ4_init_0 10 rfl rfl)
theorem dJ4_init_11 : decode cJ4_init 11 = .ok (.iload_n 1, 1) := dk_27 (dk_at dksJ4_init_0 11 rfl rfl)
theorem dJ4_init_12 : decode cJ4_init 12 = .ok (.newarray .byte, 2) := dk_188_8 (dk_at dksJ4_init_0 12 rfl rfl)
theorem dJ4_init_14 : decode cJ4_init 14 = .ok (.putfield 15, 3) := dk_181 0 15 (dk_at dksJ4_init_0 14 rfl rfl)
theorem dJ4_init_17 : decode cJ4_init 17 = .ok (.aload_n 0, 1) := dk_42 (dk_at dksJ4_init_0 17 rfl rfl)
theorem dJ4_init_18 : decode cJ4_init 18 = .ok (.iconst 0, 1) := dk_3 (dk_at dksJ4_init_0 18 rfl rfl)
theorem dJ4_init_19 : decode cJ4_init 19 = .ok (.putfield 22, 3) := dk_181 0 22 (dk_at dksJ4_init_0 19 rfl rfl)
theorem dJ4_init_22 : decode cJ4_init 22 = .ok (.goto 16, 3) := dk_167 0 16 (dk_at dksJ4_init_1 0 rfl rfl)
theorem dJ4_init_25 : decode cJ4_init 25 = .ok (.aload_n 0, 1) := dk_42 (dk_at dksJ4_init_1 3 rfl rfl)
theorem dJ4_init_26 : decode cJ4_init 26 = .ok (.iload_n 1, 1) := dk_27 (dk_at dksJ4_init_1 4 rfl rfl)
theorem dJ4_init_27 : decode cJ4_init 27 = .ok (.invokestatic 26, 3) := dk_184 0 26 (dk_at dksJ4_init_1 5 rfl rfl)
theorem dJ4_init_30 : decode cJ4_init 30 = .ok (.putfield 15, 3) := dk_181 0 15 (dk_at dksJ4_init_1 8 rfl rfl)
theorem dJ4_init_33 : decode cJ4_init 33 = .ok (.aload_n 0, 1) := dk_42 (dk_at dksJ4_init_1 11 rfl rfl)
theorem dJ4_init_34 : decode cJ4_init 34 = .ok (.iconst 1, 1) := dk_4 (dk_at dksJ4_init_1 12 rfl rfl)
theorem dJ4_init_35 : decode cJ4_init 35 = .ok (.putfield 22, 3) := dk_181 0 22 (dk_at dksJ4_init_1 13 rfl rfl)
theorem dJ4_init_38 : decode cJ4_init 38 = .ok (.return_, 1) := dk_177 (dk_at dksJ4_init_1 16 rfl rfl)
abbrev cJ4_length : ByteArray := prog_27_method_6_code
def yJ4_length : MethodName := ⟨RJ4, "length", "()I"⟩
theorem dJ4_length_0 : decode cJ4_length 0 = .ok (.aload_n 0, 1) := by decide +kernel
theorem dJ4_length_1 : decode cJ4_length 1 = .ok (.getfield 79, 3) := by decide +kernel
theorem dJ4_length_4 : decode cJ4_length 4 = .ok (.ireturn, 1) := by decide +kernel
abbrev cJ4_append : ByteArray := prog_27_method_31_code
def yJ4_append : MethodName := ⟨RJ4, "append", "(C)Ljava/lang/AbstractStringBuilder;"⟩
def dkwJ4_append_3 : List UInt8 := [181, 0, 79, 27, 184, 0, 197, 42, 176]
abbrev dktJ4_append_3 : List UInt8 := dkwJ4_append_3 ++ []
def dkwJ4_append_2 : List UInt8 := [182, 0, 83, 153, 0, 7, 42, 182, 0, 195, 42, 180, 0, 15, 42, 89, 180, 0, 79, 90, 4, 96]
abbrev dktJ4_append_2 : List UInt8 := dkwJ4_append_2 ++ dktJ4_append_3
def dkwJ4_append_1 : List UInt8 := [42, 180, 0, 15, 42, 89, 180, 0, 79, 90, 4, 96, 181, 0, 79, 27, 145, 84, 167, 0, 33, 42]
abbrev dktJ4_append_1 : List UInt8 := dkwJ4_append_1 ++ dktJ4_append_2
def dkwJ4_append_0 : List UInt8 := [42, 42, 180, 0, 79, 4, 96, 182, 0, 100, 42, 182, 0, 83, 153, 0, 31, 27, 184, 0, 191, 153, 0, 24]
abbrev dktJ4_append_0 : List UInt8 := dkwJ4_append_0 ++ dktJ4_append_1
theorem dksJ4_append_0 : cJ4_append.data.toList.drop 0 = dktJ4_append_0 := by decide +kernel
theorem dksJ4_append_1 : cJ4_append.data.toList.drop 24 = dktJ4_append_1 := dk_seg dksJ4_append_0 24 rfl rfl
theorem dksJ4_append_2 : cJ4_append.data.toList.drop 46 = dktJ4_append_2 := dk_seg dksJ4_append_1 22 rfl rfl
theorem dksJ4_append_3 : cJ4_append.data.toList.drop 68 = dktJ4_append_3 := dk_seg dksJ4_append_2 22 rfl rfl
theorem dJ4_append_0 : decode cJ4_append 0 = .ok (.aload_n 0, 1) := dk_42 (dk_at dksJ4_append_0 0 rfl rfl)
theorem dJ4_append_1 : decode cJ4_append 1 = .ok (.aload_n 0, 1) := dk_42 (dk_at dksJ4_append_0 1 rfl rfl)
theorem dJ4_append_2 : decode cJ4_append 2 = .ok (.getfield 79, 3) := dk_180 0 79 (dk_at dksJ4_append_0 2 rfl rfl)
theorem dJ4_append_5 : decode cJ4_append 5 = .ok (.iconst 1, 1) := dk_4 (dk_at dksJ4_append_0 5 rfl rfl)
theorem dJ4_append_6 : decode cJ4_append 6 = .ok (.iadd, 1) := dk_96 (dk_at dksJ4_append_0 6 rfl rfl)
theorem dJ4_append_7 : decode cJ4_append 7 = .ok (.invokevirtual 100, 3) := dk_182 0 100 (dk_at dksJ4_append_0 7 rfl rfl)
theorem dJ4_append_10 : decode cJ4_append 10 = .ok (.aload_n 0, 1) := dk_42 (dk_at dksJ4_append_0 10 rfl rfl)
theorem dJ4_append_11 : decode cJ4_append 11 = .ok (.invokevirtual 83, 3) := dk_182 0 83 (dk_at dksJ4_append_0 11 rfl rfl)
theorem dJ4_append_14 : decode cJ4_append 14 = .ok (.ifCond .eq 31, 3) := dk_153 0 31 (dk_at dksJ4_append_0 14 rfl rfl)
theorem dJ4_append_17 : decode cJ4_append 17 = .ok (.iload_n 1, 1) := dk_27 (dk_at dksJ4_append_0 17 rfl rfl)
theorem dJ4_append_18 : decode cJ4_append 18 = .ok (.invokestatic 191, 3) := dk_184 0 191 (dk_at dksJ4_append_0 18 rfl rfl)
theorem dJ4_append_21 : decode cJ4_append 21 = .ok (.ifCond .eq 24, 3) := dk_153 0 24 (dk_at dksJ4_append_0 21 rfl rfl)
theorem dJ4_append_24 : decode cJ4_append 24 = .ok (.aload_n 0, 1) := dk_42 (dk_at dksJ4_append_1 0 rfl rfl)
theorem dJ4_append_25 : decode cJ4_append 25 = .ok (.getfield 15, 3) := dk_180 0 15 (dk_at dksJ4_append_1 1 rfl rfl)
theorem dJ4_append_28 : decode cJ4_append 28 = .ok (.aload_n 0, 1) := dk_42 (dk_at dksJ4_append_1 4 rfl rfl)
theorem dJ4_append_29 : decode cJ4_append 29 = .ok (.dup, 1) := dk_89 (dk_at dksJ4_append_1 5 rfl rfl)
theorem dJ4_append_30 : decode cJ4_append 30 = .ok (.getfield 79, 3) := dk_180 0 79 (dk_at dksJ4_append_1 6 rfl rfl)
theorem dJ4_append_33 : decode cJ4_append 33 = .ok (.dup_x1, 1) := dk_90 (dk_at dksJ4_append_1 9 rfl rfl)
theorem dJ4_append_34 : decode cJ4_append 34 = .ok (.iconst 1, 1) := dk_4 (dk_at dksJ4_append_1 10 rfl rfl)
theorem dJ4_append_35 : decode cJ4_append 35 = .ok (.iadd, 1) := dk_96 (dk_at dksJ4_append_1 11 rfl rfl)
theorem dJ4_append_36 : decode cJ4_append 36 = .ok (.putfield 79, 3) := dk_181 0 79 (dk_at dksJ4_append_1 12 rfl rfl)
theorem dJ4_append_39 : decode cJ4_append 39 = .ok (.iload_n 1, 1) := dk_27 (dk_at dksJ4_append_1 15 rfl rfl)
theorem dJ4_append_40 : decode cJ4_append 40 = .ok (.i2b, 1) := dk_145 (dk_at dksJ4_append_1 16 rfl rfl)
theorem dJ4_append_41 : decode cJ4_append 41 = .ok (.bastore, 1) := dk_84 (dk_at dksJ4_append_1 17 rfl rfl)
theorem dJ4_append_42 : decode cJ4_append 42 = .ok (.goto 33, 3) := dk_167 0 33 (dk_at dksJ4_append_1 18 rfl rfl)
theorem dJ4_append_45 : decode cJ4_append 45 = .ok (.aload_n 0, 1) := dk_42 (dk_at dksJ4_append_1 21 rfl rfl)
theorem dJ4_append_46 : decode cJ4_append 46 = .ok (.invokevirtual 83, 3) := dk_182 0 83 (dk_at dksJ4_append_2 0 rfl rfl)
theorem dJ4_append_49 : decode cJ4_append 49 = .ok (.ifCond .eq 7, 3) := dk_153 0 7 (dk_at dksJ4_append_2 3 rfl rfl)
theorem dJ4_append_52 : decode cJ4_append 52 = .ok (.aload_n 0, 1) := dk_42 (dk_at dksJ4_append_2 6 rfl rfl)
theorem dJ4_append_53 : decode cJ4_append 53 = .ok (.invokevirtual 195, 3) := dk_182 0 195 (dk_at dksJ4_append_2 7 rfl rfl)
theorem dJ4_append_56 : decode cJ4_append 56 = .ok (.aload_n 0, 1) := dk_42 (dk_at dksJ4_append_2 10 rfl rfl)
theorem dJ4_append_57 : decode cJ4_append 57 = .ok (.getfield 15, 3) := dk_180 0 15 (dk_at dksJ4_append_2 11 rfl rfl)
theorem dJ4_append_60 : decode cJ4_append 60 = .ok (.aload_n 0, 1) := dk_42 (dk_at dksJ4_append_2 14 rfl rfl)
theorem dJ4_append_61 : decode cJ4_append 61 = .ok (.dup, 1) := dk_89 (dk_at dksJ4_append_2 15 rfl rfl)
theorem dJ4_append_62 : decode cJ4_append 62 = .ok (.getfield 79, 3) := dk_180 0 79 (dk_at dksJ4_append_2 16 rfl rfl)
theorem dJ4_append_65 : decode cJ4_append 65 = .ok (.dup_x1, 1) := dk_90 (dk_at dksJ4_append_2 19 rfl rfl)
theorem dJ4_append_66 : decode cJ4_append 66 = .ok (.iconst 1, 1) := dk_4 (dk_at dksJ4_append_2 20 rfl rfl)
theorem dJ4_append_67 : decode cJ4_append 67 = .ok (.iadd, 1) := dk_96 (dk_at dksJ4_append_2 21 rfl rfl)
theorem dJ4_append_68 : decode cJ4_append 68 = .ok (.putfield 79, 3) := dk_181 0 79 (dk_at dksJ4_append_3 0 rfl rfl)
theorem dJ4_append_71 : decode cJ4_append 71 = .ok (.iload_n 1, 1) := dk_27 (dk_at dksJ4_append_3 3 rfl rfl)
theorem dJ4_append_72 : decode cJ4_append 72 = .ok (.invokestatic 197, 3) := dk_184 0 197 (dk_at dksJ4_append_3 4 rfl rfl)
theorem dJ4_append_75 : decode cJ4_append 75 = .ok (.aload_n 0, 1) := dk_42 (dk_at dksJ4_append_3 7 rfl rfl)
theorem dJ4_append_76 : decode cJ4_append 76 = .ok (.areturn, 1) := dk_176 (dk_at dksJ4_append_3 8 rfl rfl)
abbrev cJ4_ensureCapacityInternal : ByteArray := prog_27_method_9_code
def yJ4_ensureCapacityInternal : MethodName := ⟨RJ4, "ensureCapacityInternal", "(I)V"⟩
def dkwJ4_ensureCapacityInternal_1 : List UInt8 := [182, 0, 104, 42, 180, 0, 22, 120, 184, 0, 108, 181, 0, 15, 177]
abbrev dktJ4_ensureCapacityInternal_1 : List UInt8 := dkwJ4_ensureCapacityInternal_1 ++ []
def dkwJ4_ensureCapacityInternal_0 : List UInt8 := [42, 180, 0, 15, 190, 42, 180, 0, 22, 122, 61, 27, 28, 100, 158, 0, 24, 42, 42, 180, 0, 15, 42, 27]
abbrev dktJ4_ensureCapacityInternal_0 : List UInt8 := dkwJ4_ensureCapacityInternal_0 ++ dktJ4_ensureCapacityInternal_1
theorem dksJ4_ensureCapacityInternal_0 : cJ4_ensureCapacityInternal.data.toList.drop 0 = dktJ4_ensureCapacityInternal_0 := by decide +kernel
theorem dksJ4_ensureCapacityInternal_1 : cJ4_ensureCapacityInternal.data.toList.drop 24 = dktJ4_ensureCapacityInternal_1 := dk_seg dksJ4_ensureCapacityInternal_0 24 rfl rfl
theorem dJ4_ensureCapacityInternal_0 : decode cJ4_ensureCapacityInternal 0 = .ok (.aload_n 0, 1) := dk_42 (dk_at dksJ4_ensureCapacityInternal_0 0 rfl rfl)
theorem dJ4_ensureCapacityInternal_1 : decode cJ4_ensureCapacityInternal 1 = .ok (.getfield 15, 3) := dk_180 0 15 (dk_at dksJ4_ensureCapacityInternal_0 1 rfl rfl)
theorem dJ4_ensureCapacityInternal_4 : decode cJ4_ensureCapacityInternal 4 = .ok (.arraylength, 1) := dk_190 (dk_at dksJ4_ensureCapacityInternal_0 4 rfl rfl)
theorem dJ4_ensureCapacityInternal_5 : decode cJ4_ensureCapacityInternal 5 = .ok (.aload_n 0, 1) := dk_42 (dk_at dksJ4_ensureCapacityInternal_0 5 rfl rfl)
theorem dJ4_ensureCapacityInternal_6 : decode cJ4_ensureCapacityInternal 6 = .ok (.getfield 22, 3) := dk_180 0 22 (dk_at dksJ4_ensureCapacityInternal_0 6 rfl rfl)
theorem dJ4_ensureCapacityInternal_9 : decode cJ4_ensureCapacityInternal 9 = .ok (.ishr, 1) := dk_122 (dk_at dksJ4_ensureCapacityInternal_0 9 rfl rfl)
theorem dJ4_ensureCapacityInternal_10 : decode cJ4_ensureCapacityInternal 10 = .ok (.istore_n 2, 1) := dk_61 (dk_at dksJ4_ensureCapacityInternal_0 10 rfl rfl)
theorem dJ4_ensureCapacityInternal_11 : decode cJ4_ensureCapacityInternal 11 = .ok (.iload_n 1, 1) := dk_27 (dk_at dksJ4_ensureCapacityInternal_0 11 rfl rfl)
theorem dJ4_ensureCapacityInternal_12 : decode cJ4_ensureCapacityInternal 12 = .ok (.iload_n 2, 1) := dk_28 (dk_at dksJ4_ensureCapacityInternal_0 12 rfl rfl)
theorem dJ4_ensureCapacityInternal_13 : decode cJ4_ensureCapacityInternal 13 = .ok (.isub, 1) := dk_100 (dk_at dksJ4_ensureCapacityInternal_0 13 rfl rfl)
theorem dJ4_ensureCapacityInternal_14 : decode cJ4_ensureCapacityInternal 14 = .ok (.ifCond .le 24, 3) := dk_158 0 24 (dk_at dksJ4_ensureCapacityInternal_0 14 rfl rfl)
theorem dJ4_ensureCapacityInternal_17 : decode cJ4_ensureCapacityInternal 17 = .ok (.aload_n 0, 1) := dk_42 (dk_at dksJ4_ensureCapacityInternal_0 17 rfl rfl)
theorem dJ4_ensureCapacityInternal_18 : decode cJ4_ensureCapacityInternal 18 = .ok (.aload_n 0, 1) := dk_42 (dk_at dksJ4_ensureCapacityInternal_0 18 rfl rfl)
theorem dJ4_ensureCapacityInternal_19 : decode cJ4_ensureCapacityInternal 19 = .ok (.getfield 15, 3) := dk_180 0 15 (dk_at dksJ4_ensureCapacityInternal_0 19 rfl rfl)
theorem dJ4_ensureCapacityInternal_22 : decode cJ4_ensureCapacityInternal 22 = .ok (.aload_n 0, 1) := dk_42 (dk_at dksJ4_ensureCapacityInternal_0 22 rfl rfl)
theorem dJ4_ensureCapacityInternal_23 : decode cJ4_ensureCapacityInternal 23 = .ok (.iload_n 1, 1) := dk_27 (dk_at dksJ4_ensureCapacityInternal_0 23 rfl rfl)
theorem dJ4_ensureCapacityInternal_24 : decode cJ4_ensureCapacityInternal 24 = .ok (.invokevirtual 104, 3) := dk_182 0 104 (dk_at dksJ4_ensureCapacityInternal_1 0 rfl rfl)
theorem dJ4_ensureCapacityInternal_27 : decode cJ4_ensureCapacityInternal 27 = .ok (.aload_n 0, 1) := dk_42 (dk_at dksJ4_ensureCapacityInternal_1 3 rfl rfl)
theorem dJ4_ensureCapacityInternal_28 : decode cJ4_ensureCapacityInternal 28 = .ok (.getfield 22, 3) := dk_180 0 22 (dk_at dksJ4_ensureCapacityInternal_1 4 rfl rfl)
theorem dJ4_ensureCapacityInternal_31 : decode cJ4_ensureCapacityInternal 31 = .ok (.ishl, 1) := dk_120 (dk_at dksJ4_ensureCapacityInternal_1 7 rfl rfl)
theorem dJ4_ensureCapacityInternal_32 : decode cJ4_ensureCapacityInternal 32 = .ok (.invokestatic 108, 3) := dk_184 0 108 (dk_at dksJ4_ensureCapacityInternal_1 8 rfl rfl)
theorem dJ4_ensureCapacityInternal_35 : decode cJ4_ensureCapacityInternal 35 = .ok (.putfield 15, 3) := dk_181 0 15 (dk_at dksJ4_ensureCapacityInternal_1 11 rfl rfl)
theorem dJ4_ensureCapacityInternal_38 : decode cJ4_ensureCapacityInternal 38 = .ok (.return_, 1) := dk_177 (dk_at dksJ4_ensureCapacityInternal_1 14 rfl rfl)
abbrev cJ4_newCapacity : ByteArray := prog_27_method_10_code
def yJ4_newCapacity : MethodName := ⟨RJ4, "newCapacity", "(I)I"⟩
def dkwJ4_newCapacity_2 : List UInt8 := [183, 0, 124, 191, 21, 5, 42, 180, 0, 22, 122, 172]
abbrev dktJ4_newCapacity_2 : List UInt8 := dkwJ4_newCapacity_2 ++ []
def dkwJ4_newCapacity_1 : List UInt8 := [180, 0, 22, 120, 96, 184, 0, 114, 54, 5, 21, 5, 18, 39, 160, 0, 13, 187, 0, 120, 89, 18, 122]
abbrev dktJ4_newCapacity_1 : List UInt8 := dkwJ4_newCapacity_1 ++ dktJ4_newCapacity_2
def dkwJ4_newCapacity_0 : List UInt8 := [42, 180, 0, 15, 190, 61, 27, 42, 180, 0, 22, 120, 62, 29, 28, 100, 54, 4, 28, 21, 4, 28, 5, 42]
abbrev dktJ4_newCapacity_0 : List UInt8 := dkwJ4_newCapacity_0 ++ dktJ4_newCapacity_1
theorem dksJ4_newCapacity_0 : cJ4_newCapacity.data.toList.drop 0 = dktJ4_newCapacity_0 := by decide +kernel
theorem dksJ4_newCapacity_1 : cJ4_newCapacity.data.toList.drop 24 = dktJ4_newCapacity_1 := dk_seg dksJ4_newCapacity_0 24 rfl rfl
theorem dksJ4_newCapacity_2 : cJ4_newCapacity.data.toList.drop 47 = dktJ4_newCapacity_2 := dk_seg dksJ4_newCapacity_1 23 rfl rfl
theorem dJ4_newCapacity_0 : decode cJ4_newCapacity 0 = .ok (.aload_n 0, 1) := dk_42 (dk_at dksJ4_newCapacity_0 0 rfl rfl)
theorem dJ4_newCapacity_1 : decode cJ4_newCapacity 1 = .ok (.getfield 15, 3) := dk_180 0 15 (dk_at dksJ4_newCapacity_0 1 rfl rfl)
theorem dJ4_newCapacity_4 : decode cJ4_newCapacity 4 = .ok (.arraylength, 1) := dk_190 (dk_at dksJ4_newCapacity_0 4 rfl rfl)
theorem dJ4_newCapacity_5 : decode cJ4_newCapacity 5 = .ok (.istore_n 2, 1) := dk_61 (dk_at dksJ4_newCapacity_0 5 rfl rfl)
theorem dJ4_newCapacity_6 : decode cJ4_newCapacity 6 = .ok (.iload_n 1, 1) := dk_27 (dk_at dksJ4_newCapacity_0 6 rfl rfl)
theorem dJ4_newCapacity_7 : decode cJ4_newCapacity 7 = .ok (.aload_n 0, 1) := dk_42 (dk_at dksJ4_newCapacity_0 7 rfl rfl)
theorem dJ4_newCapacity_8 : decode cJ4_newCapacity 8 = .ok (.getfield 22, 3) := dk_180 0 22 (dk_at dksJ4_newCapacity_0 8 rfl rfl)
theorem dJ4_newCapacity_11 : decode cJ4_newCapacity 11 = .ok (.ishl, 1) := dk_120 (dk_at dksJ4_newCapacity_0 11 rfl rfl)
theorem dJ4_newCapacity_12 : decode cJ4_newCapacity 12 = .ok (.istore_n 3, 1) := dk_62 (dk_at dksJ4_newCapacity_0 12 rfl rfl)
theorem dJ4_newCapacity_13 : decode cJ4_newCapacity 13 = .ok (.iload_n 3, 1) := dk_29 (dk_at dksJ4_newCapacity_0 13 rfl rfl)
theorem dJ4_newCapacity_14 : decode cJ4_newCapacity 14 = .ok (.iload_n 2, 1) := dk_28 (dk_at dksJ4_newCapacity_0 14 rfl rfl)
theorem dJ4_newCapacity_15 : decode cJ4_newCapacity 15 = .ok (.isub, 1) := dk_100 (dk_at dksJ4_newCapacity_0 15 rfl rfl)
theorem dJ4_newCapacity_16 : decode cJ4_newCapacity 16 = .ok (.istore 4, 2) := dk_54 4 (dk_at dksJ4_newCapacity_0 16 rfl rfl)
theorem dJ4_newCapacity_18 : decode cJ4_newCapacity 18 = .ok (.iload_n 2, 1) := dk_28 (dk_at dksJ4_newCapacity_0 18 rfl rfl)
theorem dJ4_newCapacity_19 : decode cJ4_newCapacity 19 = .ok (.iload 4, 2) := dk_21 4 (dk_at dksJ4_newCapacity_0 19 rfl rfl)
theorem dJ4_newCapacity_21 : decode cJ4_newCapacity 21 = .ok (.iload_n 2, 1) := dk_28 (dk_at dksJ4_newCapacity_0 21 rfl rfl)
theorem dJ4_newCapacity_22 : decode cJ4_newCapacity 22 = .ok (.iconst 2, 1) := dk_5 (dk_at dksJ4_newCapacity_0 22 rfl rfl)
theorem dJ4_newCapacity_23 : decode cJ4_newCapacity 23 = .ok (.aload_n 0, 1) := dk_42 (dk_at dksJ4_newCapacity_0 23 rfl rfl)
theorem dJ4_newCapacity_24 : decode cJ4_newCapacity 24 = .ok (.getfield 22, 3) := dk_180 0 22 (dk_at dksJ4_newCapacity_1 0 rfl rfl)
theorem dJ4_newCapacity_27 : decode cJ4_newCapacity 27 = .ok (.ishl, 1) := dk_120 (dk_at dksJ4_newCapacity_1 3 rfl rfl)
theorem dJ4_newCapacity_28 : decode cJ4_newCapacity 28 = .ok (.iadd, 1) := dk_96 (dk_at dksJ4_newCapacity_1 4 rfl rfl)
theorem dJ4_newCapacity_29 : decode cJ4_newCapacity 29 = .ok (.invokestatic 114, 3) := dk_184 0 114 (dk_at dksJ4_newCapacity_1 5 rfl rfl)
theorem dJ4_newCapacity_32 : decode cJ4_newCapacity 32 = .ok (.istore 5, 2) := dk_54 5 (dk_at dksJ4_newCapacity_1 8 rfl rfl)
theorem dJ4_newCapacity_34 : decode cJ4_newCapacity 34 = .ok (.iload 5, 2) := dk_21 5 (dk_at dksJ4_newCapacity_1 10 rfl rfl)
theorem dJ4_newCapacity_36 : decode cJ4_newCapacity 36 = .ok (.ldc 39, 2) := dk_18 39 (dk_at dksJ4_newCapacity_1 12 rfl rfl)
theorem dJ4_newCapacity_38 : decode cJ4_newCapacity 38 = .ok (.if_icmp .ne 13, 3) := dk_160 0 13 (dk_at dksJ4_newCapacity_1 14 rfl rfl)
theorem dJ4_newCapacity_41 : decode cJ4_newCapacity 41 = .ok (.new 120, 3) := dk_187 0 120 (dk_at dksJ4_newCapacity_1 17 rfl rfl)
theorem dJ4_newCapacity_44 : decode cJ4_newCapacity 44 = .ok (.dup, 1) := dk_89 (dk_at dksJ4_newCapacity_1 20 rfl rfl)
theorem dJ4_newCapacity_45 : decode cJ4_newCapacity 45 = .ok (.ldc 122, 2) := dk_18 122 (dk_at dksJ4_newCapacity_1 21 rfl rfl)
theorem dJ4_newCapacity_47 : decode cJ4_newCapacity 47 = .ok (.invokespecial 124, 3) := dk_183 0 124 (dk_at dksJ4_newCapacity_2 0 rfl rfl)
theorem dJ4_newCapacity_50 : decode cJ4_newCapacity 50 = .ok (.athrow, 1) := dk_191 (dk_at dksJ4_newCapacity_2 3 rfl rfl)
theorem dJ4_newCapacity_51 : decode cJ4_newCapacity 51 = .ok (.iload 5, 2) := dk_21 5 (dk_at dksJ4_newCapacity_2 4 rfl rfl)
theorem dJ4_newCapacity_53 : decode cJ4_newCapacity 53 = .ok (.aload_n 0, 1) := dk_42 (dk_at dksJ4_newCapacity_2 6 rfl rfl)
theorem dJ4_newCapacity_54 : decode cJ4_newCapacity 54 = .ok (.getfield 22, 3) := dk_180 0 22 (dk_at dksJ4_newCapacity_2 7 rfl rfl)
theorem dJ4_newCapacity_57 : decode cJ4_newCapacity 57 = .ok (.ishr, 1) := dk_122 (dk_at dksJ4_newCapacity_2 10 rfl rfl)
theorem dJ4_newCapacity_58 : decode cJ4_newCapacity 58 = .ok (.ireturn, 1) := dk_172 (dk_at dksJ4_newCapacity_2 11 rfl rfl)
abbrev cJ4_isLatin1 : ByteArray := prog_27_method_68_code
def yJ4_isLatin1 : MethodName := ⟨RJ4, "isLatin1", "()Z"⟩
def dkwJ4_isLatin1_0 : List UInt8 := [178, 0, 18, 153, 0, 14, 42, 180, 0, 22, 154, 0, 7, 4, 167, 0, 4, 3, 172]
abbrev dktJ4_isLatin1_0 : List UInt8 := dkwJ4_isLatin1_0 ++ []
theorem dksJ4_isLatin1_0 : cJ4_isLatin1.data.toList.drop 0 = dktJ4_isLatin1_0 := by decide +kernel
theorem dJ4_isLatin1_0 : decode cJ4_isLatin1 0 = .ok (.getstatic 18, 3) := dk_178 0 18 (dk_at dksJ4_isLatin1_0 0 rfl rfl)
theorem dJ4_isLatin1_3 : decode cJ4_isLatin1 3 = .ok (.ifCond .eq 14, 3) := dk_153 0 14 (dk_at dksJ4_isLatin1_0 3 rfl rfl)
theorem dJ4_isLatin1_6 : decode cJ4_isLatin1 6 = .ok (.aload_n 0, 1) := dk_42 (dk_at dksJ4_isLatin1_0 6 rfl rfl)
theorem dJ4_isLatin1_7 : decode cJ4_isLatin1 7 = .ok (.getfield 22, 3) := dk_180 0 22 (dk_at dksJ4_isLatin1_0 7 rfl rfl)
theorem dJ4_isLatin1_10 : decode cJ4_isLatin1 10 = .ok (.ifCond .ne 7, 3) := dk_154 0 7 (dk_at dksJ4_isLatin1_0 10 rfl rfl)
theorem dJ4_isLatin1_13 : decode cJ4_isLatin1 13 = .ok (.iconst 1, 1) := dk_4 (dk_at dksJ4_isLatin1_0 13 rfl rfl)
theorem dJ4_isLatin1_14 : decode cJ4_isLatin1 14 = .ok (.goto 4, 3) := dk_167 0 4 (dk_at dksJ4_isLatin1_0 14 rfl rfl)
theorem dJ4_isLatin1_17 : decode cJ4_isLatin1 17 = .ok (.iconst 0, 1) := dk_3 (dk_at dksJ4_isLatin1_0 17 rfl rfl)
theorem dJ4_isLatin1_18 : decode cJ4_isLatin1 18 = .ok (.ireturn, 1) := dk_172 (dk_at dksJ4_isLatin1_0 18 rfl rfl)
abbrev cJ4_inflate : ByteArray := prog_27_method_11_code
def yJ4_inflate : MethodName := ⟨RJ4, "inflate", "()V"⟩
def dkwJ4_inflate_1 : List UInt8 := [42, 180, 0, 79, 184, 0, 125, 42, 43, 181, 0, 15, 42, 4, 181, 0, 22, 177]
abbrev dktJ4_inflate_1 : List UInt8 := dkwJ4_inflate_1 ++ []
def dkwJ4_inflate_0 : List UInt8 := [42, 182, 0, 83, 154, 0, 4, 177, 42, 180, 0, 15, 190, 184, 0, 26, 76, 42, 180, 0, 15, 3, 43, 3]
abbrev dktJ4_inflate_0 : List UInt8 := dkwJ4_inflate_0 ++ dktJ4_inflate_1
theorem dksJ4_inflate_0 : cJ4_inflate.data.toList.drop 0 = dktJ4_inflate_0 := by decide +kernel
theorem dksJ4_inflate_1 : cJ4_inflate.data.toList.drop 24 = dktJ4_inflate_1 := dk_seg dksJ4_inflate_0 24 rfl rfl
theorem dJ4_inflate_0 : decode cJ4_inflate 0 = .ok (.aload_n 0, 1) := dk_42 (dk_at dksJ4_inflate_0 0 rfl rfl)
theorem dJ4_inflate_1 : decode cJ4_inflate 1 = .ok (.invokevirtual 83, 3) := dk_182 0 83 (dk_at dksJ4_inflate_0 1 rfl rfl)
theorem dJ4_inflate_4 : decode cJ4_inflate 4 = .ok (.ifCond .ne 4, 3) := dk_154 0 4 (dk_at dksJ4_inflate_0 4 rfl rfl)
theorem dJ4_inflate_7 : decode cJ4_inflate 7 = .ok (.return_, 1) := dk_177 (dk_at dksJ4_inflate_0 7 rfl rfl)
theorem dJ4_inflate_8 : decode cJ4_inflate 8 = .ok (.aload_n 0, 1) := dk_42 (dk_at dksJ4_inflate_0 8 rfl rfl)
theorem dJ4_inflate_9 : decode cJ4_inflate 9 = .ok (.getfield 15, 3) := dk_180 0 15 (dk_at dksJ4_inflate_0 9 rfl rfl)
theorem dJ4_inflate_12 : decode cJ4_inflate 12 = .ok (.arraylength, 1) := dk_190 (dk_at dksJ4_inflate_0 12 rfl rfl)
theorem dJ4_inflate_13 : decode cJ4_inflate 13 = .ok (.invokestatic 26, 3) := dk_184 0 26 (dk_at dksJ4_inflate_0 13 rfl rfl)
theorem dJ4_inflate_16 : decode cJ4_inflate 16 = .ok (.astore_n 1, 1) := dk_76 (dk_at dksJ4_inflate_0 16 rfl rfl)
theorem dJ4_inflate_17 : decode cJ4_inflate 17 = .ok (.aload_n 0, 1) := dk_42 (dk_at dksJ4_inflate_0 17 rfl rfl)
theorem dJ4_inflate_18 : decode cJ4_inflate 18 = .ok (.getfield 15, 3) := dk_180 0 15 (dk_at dksJ4_inflate_0 18 rfl rfl)
theorem dJ4_inflate_21 : decode cJ4_inflate 21 = .ok (.iconst 0, 1) := dk_3 (dk_at dksJ4_inflate_0 21 rfl rfl)
theorem dJ4_inflate_22 : decode cJ4_inflate 22 = .ok (.aload_n 1, 1) := dk_43 (dk_at dksJ4_inflate_0 22 rfl rfl)
theorem dJ4_inflate_23 : decode cJ4_inflate 23 = .ok (.iconst 0, 1) := dk_3 (dk_at dksJ4_inflate_0 23 rfl rfl)
theorem dJ4_inflate_24 : decode cJ4_inflate 24 = .ok (.aload_n 0, 1) := dk_42 (dk_at dksJ4_inflate_1 0 rfl rfl)
theorem dJ4_inflate_25 : decode cJ4_inflate 25 = .ok (.getfield 79, 3) := dk_180 0 79 (dk_at dksJ4_inflate_1 1 rfl rfl)
theorem dJ4_inflate_28 : decode cJ4_inflate 28 = .ok (.invokestatic 125, 3) := dk_184 0 125 (dk_at dksJ4_inflate_1 4 rfl rfl)
theorem dJ4_inflate_31 : decode cJ4_inflate 31 = .ok (.aload_n 0, 1) := dk_42 (dk_at dksJ4_inflate_1 7 rfl rfl)
theorem dJ4_inflate_32 : decode cJ4_inflate 32 = .ok (.aload_n 1, 1) := dk_43 (dk_at dksJ4_inflate_1 8 rfl rfl)
theorem dJ4_inflate_33 : decode cJ4_inflate 33 = .ok (.putfield 15, 3) := dk_181 0 15 (dk_at dksJ4_inflate_1 9 rfl rfl)
theorem dJ4_inflate_36 : decode cJ4_inflate 36 = .ok (.aload_n 0, 1) := dk_42 (dk_at dksJ4_inflate_1 12 rfl rfl)
theorem dJ4_inflate_37 : decode cJ4_inflate 37 = .ok (.iconst 1, 1) := dk_4 (dk_at dksJ4_inflate_1 13 rfl rfl)
theorem dJ4_inflate_38 : decode cJ4_inflate 38 = .ok (.putfield 22, 3) := dk_181 0 22 (dk_at dksJ4_inflate_1 14 rfl rfl)
theorem dJ4_inflate_41 : decode cJ4_inflate 41 = .ok (.return_, 1) := dk_177 (dk_at dksJ4_inflate_1 17 rfl rfl)
abbrev cJ4_getValue : ByteArray := prog_27_method_64_code
def yJ4_getValue : MethodName := ⟨RJ4, "getValue", "()[B"⟩
theorem dJ4_getValue_0 : decode cJ4_getValue 0 = .ok (.aload_n 0, 1) := by decide +kernel
theorem dJ4_getValue_1 : decode cJ4_getValue 1 = .ok (.getfield 15, 3) := by decide +kernel
theorem dJ4_getValue_4 : decode cJ4_getValue 4 = .ok (.areturn, 1) := by decide +kernel
abbrev cJ4_append_2 : ByteArray := prog_27_method_22_code
def yJ4_append_2 : MethodName := ⟨RJ4, "append", "(Ljava/lang/String;)Ljava/lang/AbstractStringBuilder;"⟩
def dkwJ4_append_2_1 : List UInt8 := [42, 42, 180, 0, 79, 43, 182, 0, 208, 42, 89, 180, 0, 79, 28, 96, 181, 0, 79, 42, 176]
abbrev dktJ4_append_2_1 : List UInt8 := dkwJ4_append_2_1 ++ []
def dkwJ4_append_2_0 : List UInt8 := [43, 199, 0, 8, 42, 182, 0, 204, 176, 43, 182, 0, 32, 61, 42, 42, 180, 0, 79, 28, 96, 182, 0, 100]
abbrev dktJ4_append_2_0 : List UInt8 := dkwJ4_append_2_0 ++ dktJ4_append_2_1
theorem dksJ4_append_2_0 : cJ4_append_2.data.toList.drop 0 = dktJ4_append_2_0 := by decide +kernel
theorem dksJ4_append_2_1 : cJ4_append_2.data.toList.drop 24 = dktJ4_append_2_1 := dk_seg dksJ4_append_2_0 24 rfl rfl
theorem dJ4_append_2_0 : decode cJ4_append_2 0 = .ok (.aload_n 1, 1) := dk_43 (dk_at dksJ4_append_2_0 0 rfl rfl)
theorem dJ4_append_2_1 : decode cJ4_append_2 1 = .ok (.ifnonnull 8, 3) := dk_199 0 8 (dk_at dksJ4_append_2_0 1 rfl rfl)
theorem dJ4_append_2_4 : decode cJ4_append_2 4 = .ok (.aload_n 0, 1) := dk_42 (dk_at dksJ4_append_2_0 4 rfl rfl)
theorem dJ4_append_2_5 : decode cJ4_append_2 5 = .ok (.invokevirtual 204, 3) := dk_182 0 204 (dk_at dksJ4_append_2_0 5 rfl rfl)
theorem dJ4_append_2_8 : decode cJ4_append_2 8 = .ok (.areturn, 1) := dk_176 (dk_at dksJ4_append_2_0 8 rfl rfl)
theorem dJ4_append_2_9 : decode cJ4_append_2 9 = .ok (.aload_n 1, 1) := dk_43 (dk_at dksJ4_append_2_0 9 rfl rfl)
theorem dJ4_append_2_10 : decode cJ4_append_2 10 = .ok (.invokevirtual 32, 3) := dk_182 0 32 (dk_at dksJ4_append_2_0 10 rfl rfl)
theorem dJ4_append_2_13 : decode cJ4_append_2 13 = .ok (.istore_n 2, 1) := dk_61 (dk_at dksJ4_append_2_0 13 rfl rfl)
theorem dJ4_append_2_14 : decode cJ4_append_2 14 = .ok (.aload_n 0, 1) := dk_42 (dk_at dksJ4_append_2_0 14 rfl rfl)
theorem dJ4_append_2_15 : decode cJ4_append_2 15 = .ok (.aload_n 0, 1) := dk_42 (dk_at dksJ4_append_2_0 15 rfl rfl)
theorem dJ4_append_2_16 : decode cJ4_append_2 16 = .ok (.getfield 79, 3) := dk_180 0 79 (dk_at dksJ4_append_2_0 16 rfl rfl)
theorem dJ4_append_2_19 : decode cJ4_append_2 19 = .ok (.iload_n 2, 1) := dk_28 (dk_at dksJ4_append_2_0 19 rfl rfl)
theorem dJ4_append_2_20 : decode cJ4_append_2 20 = .ok (.iadd, 1) := dk_96 (dk_at dksJ4_append_2_0 20 rfl rfl)
theorem dJ4_append_2_21 : decode cJ4_append_2 21 = .ok (.invokevirtual 100, 3) := dk_182 0 100 (dk_at dksJ4_append_2_0 21 rfl rfl)
theorem dJ4_append_2_24 : decode cJ4_append_2 24 = .ok (.aload_n 0, 1) := dk_42 (dk_at dksJ4_append_2_1 0 rfl rfl)
theorem dJ4_append_2_25 : decode cJ4_append_2 25 = .ok (.aload_n 0, 1) := dk_42 (dk_at dksJ4_append_2_1 1 rfl rfl)
theorem dJ4_append_2_26 : decode cJ4_append_2 26 = .ok (.getfield 79, 3) := dk_180 0 79 (dk_at dksJ4_append_2_1 2 rfl rfl)
theorem dJ4_append_2_29 : decode cJ4_append_2 29 = .ok (.aload_n 1, 1) := dk_43 (dk_at dksJ4_append_2_1 5 rfl rfl)
theorem dJ4_append_2_30 : decode cJ4_append_2 30 = .ok (.invokevirtual 208, 3) := dk_182 0 208 (dk_at dksJ4_append_2_1 6 rfl rfl)
theorem dJ4_append_2_33 : decode cJ4_append_2 33 = .ok (.aload_n 0, 1) := dk_42 (dk_at dksJ4_append_2_1 9 rfl rfl)
theorem dJ4_append_2_34 : decode cJ4_append_2 34 = .ok (.dup, 1) := dk_89 (dk_at dksJ4_append_2_1 10 rfl rfl)
theorem dJ4_append_2_35 : decode cJ4_append_2 35 = .ok (.getfield 79, 3) := dk_180 0 79 (dk_at dksJ4_append_2_1 11 rfl rfl)
theorem dJ4_append_2_38 : decode cJ4_append_2 38 = .ok (.iload_n 2, 1) := dk_28 (dk_at dksJ4_append_2_1 14 rfl rfl)
theorem dJ4_append_2_39 : decode cJ4_append_2 39 = .ok (.iadd, 1) := dk_96 (dk_at dksJ4_append_2_1 15 rfl rfl)
theorem dJ4_append_2_40 : decode cJ4_append_2 40 = .ok (.putfield 79, 3) := dk_181 0 79 (dk_at dksJ4_append_2_1 16 rfl rfl)
theorem dJ4_append_2_43 : decode cJ4_append_2 43 = .ok (.aload_n 0, 1) := dk_42 (dk_at dksJ4_append_2_1 19 rfl rfl)
theorem dJ4_append_2_44 : decode cJ4_append_2 44 = .ok (.areturn, 1) := dk_176 (dk_at dksJ4_append_2_1 20 rfl rfl)
abbrev cJ4_appendNull : ByteArray := prog_27_method_26_code
def yJ4_appendNull : MethodName := ⟨RJ4, "appendNull", "()Ljava/lang/AbstractStringBuilder;"⟩
def dkwJ4_appendNull_3 : List UInt8 := [184, 0, 226, 60, 42, 27, 181, 0, 79, 42, 176]
abbrev dktJ4_appendNull_3 : List UInt8 := dkwJ4_appendNull_3 ++ []
def dkwJ4_appendNull_2 : List UInt8 := [16, 108, 84, 44, 27, 132, 1, 1, 16, 108, 84, 167, 0, 17, 44, 27, 16, 110, 16, 117, 16, 108, 16, 108]
abbrev dktJ4_appendNull_2 : List UInt8 := dkwJ4_appendNull_2 ++ dktJ4_appendNull_3
def dkwJ4_appendNull_1 : List UInt8 := [153, 0, 38, 44, 27, 132, 1, 1, 16, 110, 84, 44, 27, 132, 1, 1, 16, 117, 84, 44, 27, 132, 1, 1]
abbrev dktJ4_appendNull_1 : List UInt8 := dkwJ4_appendNull_1 ++ dktJ4_appendNull_2
def dkwJ4_appendNull_0 : List UInt8 := [42, 42, 180, 0, 79, 7, 96, 182, 0, 100, 42, 180, 0, 79, 60, 42, 180, 0, 15, 77, 42, 182, 0, 83]
abbrev dktJ4_appendNull_0 : List UInt8 := dkwJ4_appendNull_0 ++ dktJ4_appendNull_1
theorem dksJ4_appendNull_0 : cJ4_appendNull.data.toList.drop 0 = dktJ4_appendNull_0 := by decide +kernel
theorem dksJ4_appendNull_1 : cJ4_appendNull.data.toList.drop 24 = dktJ4_appendNull_1 := dk_seg dksJ4_appendNull_0 24 rfl rfl
theorem dksJ4_appendNull_2 : cJ4_appendNull.data.toList.drop 48 = dktJ4_appendNull_2 := dk_seg dksJ4_appendNull_1 24 rfl rfl
theorem dksJ4_appendNull_3 : cJ4_appendNull.data.toList.drop 72 = dktJ4_appendNull_3 := dk_seg dksJ4_appendNull_2 24 rfl rfl
theorem dJ4_appendNull_0 : decode cJ4_appendNull 0 = .ok (.aload_n 0, 1) := dk_42 (dk_at dksJ4_appendNull_0 0 rfl rfl)
theorem dJ4_appendNull_1 : decode cJ4_appendNull 1 = .ok (.aload_n 0, 1) := dk_42 (dk_at dksJ4_appendNull_0 1 rfl rfl)
theorem dJ4_appendNull_2 : decode cJ4_appendNull 2 = .ok (.getfield 79, 3) := dk_180 0 79 (dk_at dksJ4_appendNull_0 2 rfl rfl)
theorem dJ4_appendNull_5 : decode cJ4_appendNull 5 = .ok (.iconst 4, 1) := dk_7 (dk_at dksJ4_appendNull_0 5 rfl rfl)
theorem dJ4_appendNull_6 : decode cJ4_appendNull 6 = .ok (.iadd, 1) := dk_96 (dk_at dksJ4_appendNull_0 6 rfl rfl)
theorem dJ4_appendNull_7 : decode cJ4_appendNull 7 = .ok (.invokevirtual 100, 3) := dk_182 0 100 (dk_at dksJ4_appendNull_0 7 rfl rfl)
theorem dJ4_appendNull_10 : decode cJ4_appendNull 10 = .ok (.aload_n 0, 1) := dk_42 (dk_at dksJ4_appendNull_0 10 rfl rfl)
theorem dJ4_appendNull_11 : decode cJ4_appendNull 11 = .ok (.getfield 79, 3) := dk_180 0 79 (dk_at dksJ4_appendNull_0 11 rfl rfl)
theorem dJ4_appendNull_14 : decode cJ4_appendNull 14 = .ok (.istore_n 1, 1) := dk_60 (dk_at dksJ4_appendNull_0 14 rfl rfl)
theorem dJ4_appendNull_15 : decode cJ4_appendNull 15 = .ok (.aload_n 0, 1) := dk_42 (dk_at dksJ4_appendNull_0 15 rfl rfl)
theorem dJ4_appendNull_16 : decode cJ4_appendNull 16 = .ok (.getfield 15, 3) := dk_180 0 15 (dk_at dksJ4_appendNull_0 16 rfl rfl)
theorem dJ4_appendNull_19 : decode cJ4_appendNull 19 = .ok (.astore_n 2, 1) := dk_77 (dk_at dksJ4_appendNull_0 19 rfl rfl)
theorem dJ4_appendNull_20 : decode cJ4_appendNull 20 = .ok (.aload_n 0, 1) := dk_42 (dk_at dksJ4_appendNull_0 20 rfl rfl)
theorem dJ4_appendNull_21 : decode cJ4_appendNull 21 = .ok (.invokevirtual 83, 3) := dk_182 0 83 (dk_at dksJ4_appendNull_0 21 rfl rfl)
theorem dJ4_appendNull_24 : decode cJ4_appendNull 24 = .ok (.ifCond .eq 38, 3) := dk_153 0 38 (dk_at dksJ4_appendNull_1 0 rfl rfl)
theorem dJ4_appendNull_27 : decode cJ4_appendNull 27 = .ok (.aload_n 2, 1) := dk_44 (dk_at dksJ4_appendNull_1 3 rfl rfl)
theorem dJ4_appendNull_28 : decode cJ4_appendNull 28 = .ok (.iload_n 1, 1) := dk_27 (dk_at dksJ4_appendNull_1 4 rfl rfl)
theorem dJ4_appendNull_29 : decode cJ4_appendNull 29 = .ok (.iinc 1 1, 3) := dk_132 1 1 (dk_at dksJ4_appendNull_1 5 rfl rfl)
theorem dJ4_appendNull_32 : decode cJ4_appendNull 32 = .ok (.bipush 110, 2) := dk_16 110 (dk_at dksJ4_appendNull_1 8 rfl rfl)
theorem dJ4_appendNull_34 : decode cJ4_appendNull 34 = .ok (.bastore, 1) := dk_84 (dk_at dksJ4_appendNull_1 10 rfl rfl)
theorem dJ4_appendNull_35 : decode cJ4_appendNull 35 = .ok (.aload_n 2, 1) := dk_44 (dk_at dksJ4_appendNull_1 11 rfl rfl)
theorem dJ4_appendNull_36 : decode cJ4_appendNull 36 = .ok (.iload_n 1, 1) := dk_27 (dk_at dksJ4_appendNull_1 12 rfl rfl)
theorem dJ4_appendNull_37 : decode cJ4_appendNull 37 = .ok (.iinc 1 1, 3) := dk_132 1 1 (dk_at dksJ4_appendNull_1 13 rfl rfl)
theorem dJ4_appendNull_40 : decode cJ4_appendNull 40 = .ok (.bipush 117, 2) := dk_16 117 (dk_at dksJ4_appendNull_1 16 rfl rfl)
theorem dJ4_appendNull_42 : decode cJ4_appendNull 42 = .ok (.bastore, 1) := dk_84 (dk_at dksJ4_appendNull_1 18 rfl rfl)
theorem dJ4_appendNull_43 : decode cJ4_appendNull 43 = .ok (.aload_n 2, 1) := dk_44 (dk_at dksJ4_appendNull_1 19 rfl rfl)
theorem dJ4_appendNull_44 : decode cJ4_appendNull 44 = .ok (.iload_n 1, 1) := dk_27 (dk_at dksJ4_appendNull_1 20 rfl rfl)
theorem dJ4_appendNull_45 : decode cJ4_appendNull 45 = .ok (.iinc 1 1, 3) := dk_132 1 1 (dk_at dksJ4_appendNull_1 21 rfl rfl)
theorem dJ4_appendNull_48 : decode cJ4_appendNull 48 = .ok (.bipush 108, 2) := dk_16 108 (dk_at dksJ4_appendNull_2 0 rfl rfl)
theorem dJ4_appendNull_50 : decode cJ4_appendNull 50 = .ok (.bastore, 1) := dk_84 (dk_at dksJ4_appendNull_2 2 rfl rfl)
theorem dJ4_appendNull_51 : decode cJ4_appendNull 51 = .ok (.aload_n 2, 1) := dk_44 (dk_at dksJ4_appendNull_2 3 rfl rfl)
theorem dJ4_appendNull_52 : decode cJ4_appendNull 52 = .ok (.iload_n 1, 1) := dk_27 (dk_at dksJ4_appendNull_2 4 rfl rfl)
theorem dJ4_appendNull_53 : decode cJ4_appendNull 53 = .ok (.iinc 1 1, 3) := dk_132 1 1 (dk_at dksJ4_appendNull_2 5 rfl rfl)
theorem dJ4_appendNull_56 : decode cJ4_appendNull 56 = .ok (.bipush 108, 2) := dk_16 108 (dk_at dksJ4_appendNull_2 8 rfl rfl)
theorem dJ4_appendNull_58 : decode cJ4_appendNull 58 = .ok (.bastore, 1) := dk_84 (dk_at dksJ4_appendNull_2 10 rfl rfl)
theorem dJ4_appendNull_59 : decode cJ4_appendNull 59 = .ok (.goto 17, 3) := dk_167 0 17 (dk_at dksJ4_appendNull_2 11 rfl rfl)
theorem dJ4_appendNull_62 : decode cJ4_appendNull 62 = .ok (.aload_n 2, 1) := dk_44 (dk_at dksJ4_appendNull_2 14 rfl rfl)
theorem dJ4_appendNull_63 : decode cJ4_appendNull 63 = .ok (.iload_n 1, 1) := dk_27 (dk_at dksJ4_appendNull_2 15 rfl rfl)
theorem dJ4_appendNull_64 : decode cJ4_appendNull 64 = .ok (.bipush 110, 2) := dk_16 110 (dk_at dksJ4_appendNull_2 16 rfl rfl)
theorem dJ4_appendNull_66 : decode cJ4_appendNull 66 = .ok (.bipush 117, 2) := dk_16 117 (dk_at dksJ4_appendNull_2 18 rfl rfl)
theorem dJ4_appendNull_68 : decode cJ4_appendNull 68 = .ok (.bipush 108, 2) := dk_16 108 (dk_at dksJ4_appendNull_2 20 rfl rfl)
theorem dJ4_appendNull_70 : decode cJ4_appendNull 70 = .ok (.bipush 108, 2) := dk_16 108 (dk_at dksJ4_appendNull_2 22 rfl rfl)
theorem dJ4_appendNull_72 : decode cJ4_appendNull 72 = .ok (.invokestatic 226, 3) := dk_184 0 226 (dk_at dksJ4_appendNull_3 0 rfl rfl)
theorem dJ4_appendNull_75 : decode cJ4_appendNull 75 = .ok (.istore_n 1, 1) := dk_60 (dk_at dksJ4_appendNull_3 3 rfl rfl)
theorem dJ4_appendNull_76 : decode cJ4_appendNull 76 = .ok (.aload_n 0, 1) := dk_42 (dk_at dksJ4_appendNull_3 4 rfl rfl)
theorem dJ4_appendNull_77 : decode cJ4_appendNull 77 = .ok (.iload_n 1, 1) := dk_27 (dk_at dksJ4_appendNull_3 5 rfl rfl)
theorem dJ4_appendNull_78 : decode cJ4_appendNull 78 = .ok (.putfield 79, 3) := dk_181 0 79 (dk_at dksJ4_appendNull_3 6 rfl rfl)
theorem dJ4_appendNull_81 : decode cJ4_appendNull 81 = .ok (.aload_n 0, 1) := dk_42 (dk_at dksJ4_appendNull_3 9 rfl rfl)
theorem dJ4_appendNull_82 : decode cJ4_appendNull 82 = .ok (.areturn, 1) := dk_176 (dk_at dksJ4_appendNull_3 10 rfl rfl)
abbrev cJ4_putStringAt : ByteArray := prog_27_method_73_code
def yJ4_putStringAt : MethodName := ⟨RJ4, "putStringAt", "(ILjava/lang/String;)V"⟩
def dkwJ4_putStringAt_0 : List UInt8 := [42, 44, 182, 1, 141, 44, 42, 180, 0, 15, 27, 42, 180, 0, 22, 182, 1, 143, 177]
abbrev dktJ4_putStringAt_0 : List UInt8 := dkwJ4_putStringAt_0 ++ []
theorem dksJ4_putStringAt_0 : cJ4_putStringAt.data.toList.drop 0 = dktJ4_putStringAt_0 := by decide +kernel
theorem dJ4_putStringAt_0 : decode cJ4_putStringAt 0 = .ok (.aload_n 0, 1) := dk_42 (dk_at dksJ4_putStringAt_0 0 rfl rfl)
theorem dJ4_putStringAt_1 : decode cJ4_putStringAt 1 = .ok (.aload_n 2, 1) := dk_44 (dk_at dksJ4_putStringAt_0 1 rfl rfl)
theorem dJ4_putStringAt_2 : decode cJ4_putStringAt 2 = .ok (.invokevirtual 397, 3) := dk_182 1 141 (dk_at dksJ4_putStringAt_0 2 rfl rfl)
theorem dJ4_putStringAt_5 : decode cJ4_putStringAt 5 = .ok (.aload_n 2, 1) := dk_44 (dk_at dksJ4_putStringAt_0 5 rfl rfl)
theorem dJ4_putStringAt_6 : decode cJ4_putStringAt 6 = .ok (.aload_n 0, 1) := dk_42 (dk_at dksJ4_putStringAt_0 6 rfl rfl)
theorem dJ4_putStringAt_7 : decode cJ4_putStringAt 7 = .ok (.getfield 15, 3) := dk_180 0 15 (dk_at dksJ4_putStringAt_0 7 rfl rfl)
theorem dJ4_putStringAt_10 : decode cJ4_putStringAt 10 = .ok (.iload_n 1, 1) := dk_27 (dk_at dksJ4_putStringAt_0 10 rfl rfl)
theorem dJ4_putStringAt_11 : decode cJ4_putStringAt 11 = .ok (.aload_n 0, 1) := dk_42 (dk_at dksJ4_putStringAt_0 11 rfl rfl)
theorem dJ4_putStringAt_12 : decode cJ4_putStringAt 12 = .ok (.getfield 22, 3) := dk_180 0 22 (dk_at dksJ4_putStringAt_0 12 rfl rfl)
theorem dJ4_putStringAt_15 : decode cJ4_putStringAt 15 = .ok (.invokevirtual 399, 3) := dk_182 1 143 (dk_at dksJ4_putStringAt_0 15 rfl rfl)
theorem dJ4_putStringAt_18 : decode cJ4_putStringAt 18 = .ok (.return_, 1) := dk_177 (dk_at dksJ4_putStringAt_0 18 rfl rfl)
abbrev cJ4_inflateIfNeededFor : ByteArray := prog_27_method_71_code
def yJ4_inflateIfNeededFor : MethodName := ⟨RJ4, "inflateIfNeededFor", "(Ljava/lang/String;)V"⟩
def dkwJ4_inflateIfNeededFor_0 : List UInt8 := [178, 0, 18, 153, 0, 18, 42, 180, 0, 22, 43, 182, 0, 40, 159, 0, 7, 42, 182, 0, 195, 177]
abbrev dktJ4_inflateIfNeededFor_0 : List UInt8 := dkwJ4_inflateIfNeededFor_0 ++ []
theorem dksJ4_inflateIfNeededFor_0 : cJ4_inflateIfNeededFor.data.toList.drop 0 = dktJ4_inflateIfNeededFor_0 := by decide +kernel
theorem dJ4_inflateIfNeededFor_0 : decode cJ4_inflateIfNeededFor 0 = .ok (.getstatic 18, 3) := dk_178 0 18 (dk_at dksJ4_inflateIfNeededFor_0 0 rfl rfl)
theorem dJ4_inflateIfNeededFor_3 : decode cJ4_inflateIfNeededFor 3 = .ok (.ifCond .eq 18, 3) := dk_153 0 18 (dk_at dksJ4_inflateIfNeededFor_0 3 rfl rfl)
theorem dJ4_inflateIfNeededFor_6 : decode cJ4_inflateIfNeededFor 6 = .ok (.aload_n 0, 1) := dk_42 (dk_at dksJ4_inflateIfNeededFor_0 6 rfl rfl)
theorem dJ4_inflateIfNeededFor_7 : decode cJ4_inflateIfNeededFor 7 = .ok (.getfield 22, 3) := dk_180 0 22 (dk_at dksJ4_inflateIfNeededFor_0 7 rfl rfl)
theorem dJ4_inflateIfNeededFor_10 : decode cJ4_inflateIfNeededFor 10 = .ok (.aload_n 1, 1) := dk_43 (dk_at dksJ4_inflateIfNeededFor_0 10 rfl rfl)
theorem dJ4_inflateIfNeededFor_11 : decode cJ4_inflateIfNeededFor 11 = .ok (.invokevirtual 40, 3) := dk_182 0 40 (dk_at dksJ4_inflateIfNeededFor_0 11 rfl rfl)
theorem dJ4_inflateIfNeededFor_14 : decode cJ4_inflateIfNeededFor 14 = .ok (.if_icmp .eq 7, 3) := dk_159 0 7 (dk_at dksJ4_inflateIfNeededFor_0 14 rfl rfl)
theorem dJ4_inflateIfNeededFor_17 : decode cJ4_inflateIfNeededFor 17 = .ok (.aload_n 0, 1) := dk_42 (dk_at dksJ4_inflateIfNeededFor_0 17 rfl rfl)
theorem dJ4_inflateIfNeededFor_18 : decode cJ4_inflateIfNeededFor 18 = .ok (.invokevirtual 195, 3) := dk_182 0 195 (dk_at dksJ4_inflateIfNeededFor_0 18 rfl rfl)
theorem dJ4_inflateIfNeededFor_21 : decode cJ4_inflateIfNeededFor 21 = .ok (.return_, 1) := dk_177 (dk_at dksJ4_inflateIfNeededFor_0 21 rfl rfl)
theorem q136 : (Jvm.Cond.initialized "java/lang/AbstractStringBuilder") ∈ lw_all := lw_g (lw_at lw_m1 11 rfl) rfl
theorem q320 : (Jvm.Cond.instanceMethod ({ cls := "java/lang/AbstractStringBuilder", name := "<init>", desc := "(I)V" } : Jvm.MethodName)) ∈ lw_all := lw_g (lw_at lw_m1 195 rfl) rfl
theorem q321 : (Jvm.Cond.code ({ cls := "java/lang/AbstractStringBuilder", name := "<init>", desc := "(I)V" } : Jvm.MethodName) prog_27_method_2_code (2 : Nat) (Option.none : Option Jvm.ClassFile.FieldType)) ∈ lw_all := lw_g (lw_at lw_m1 196 rfl) rfl
theorem q322 : (Jvm.Cond.methodLink "java/lang/AbstractStringBuilder" (3 : Nat) ({ cls := "java/lang/Object", name := "<init>", desc := "()V" } : Jvm.MethodName)) ∈ lw_all := lw_g (lw_at lw_m1 197 rfl) rfl
theorem q323 : (Jvm.Cond.fieldLink "java/lang/AbstractStringBuilder" (18 : Nat) "java/lang/String" "COMPACT_STRINGS" "Z") ∈ lw_all := lw_g (lw_at lw_m1 198 rfl) rfl
theorem q325 : (Jvm.Cond.methodLink "java/lang/AbstractStringBuilder" (26 : Nat) ({ cls := "java/lang/StringUTF16", name := "newBytesFor", desc := "(I)[B" } : Jvm.MethodName)) ∈ lw_all := lw_g (lw_at lw_m1 200 rfl) rfl
theorem q332 : (Jvm.Cond.fieldLink "java/lang/AbstractStringBuilder" (15 : Nat) "java/lang/AbstractStringBuilder" "value" "[B") ∈ lw_all := lw_g (lw_at lw_m1 207 rfl) rfl
theorem q333 : (Jvm.Cond.fieldLink "java/lang/AbstractStringBuilder" (22 : Nat) "java/lang/AbstractStringBuilder" "coder" "B") ∈ lw_all := lw_g (lw_at lw_m1 208 rfl) rfl
theorem q335 : (Jvm.Cond.fieldLink "java/lang/AbstractStringBuilder" (79 : Nat) "java/lang/AbstractStringBuilder" "count" "I") ∈ lw_all := lw_g (lw_at lw_m1 210 rfl) rfl
theorem q337 : (Jvm.Cond.soleField "java/lang/AbstractStringBuilder" "value") ∈ lw_all := lw_g (lw_at lw_m1 212 rfl) rfl
theorem q339 : (Jvm.Cond.soleField "java/lang/AbstractStringBuilder" "coder") ∈ lw_all := lw_g (lw_at lw_m1 214 rfl) rfl
theorem q341 : (Jvm.Cond.soleField "java/lang/AbstractStringBuilder" "maybeLatin1") ∈ lw_all := lw_g (lw_at lw_m1 216 rfl) rfl
theorem q343 : (Jvm.Cond.soleField "java/lang/AbstractStringBuilder" "count") ∈ lw_all := lw_g (lw_at lw_m1 218 rfl) rfl
theorem q350 : (Jvm.Cond.instanceMethod ({ cls := "java/lang/AbstractStringBuilder", name := "length", desc := "()I" } : Jvm.MethodName)) ∈ lw_all := lw_g (lw_at lw_m1 225 rfl) rfl
theorem q351 : (Jvm.Cond.code ({ cls := "java/lang/AbstractStringBuilder", name := "length", desc := "()I" } : Jvm.MethodName) prog_27_method_6_code (1 : Nat) (Option.some Jvm.ClassFile.FieldType.int)) ∈ lw_all := lw_g (lw_at lw_m1 226 rfl) rfl
theorem q357 : (Jvm.Cond.instanceMethod ({ cls := "java/lang/AbstractStringBuilder", name := "append", desc := "(C)Ljava/lang/AbstractStringBuilder;" } : Jvm.MethodName)) ∈ lw_all := lw_g (lw_at lw_m1 232 rfl) rfl
theorem q358 : (Jvm.Cond.code ({ cls := "java/lang/AbstractStringBuilder", name := "append", desc := "(C)Ljava/lang/AbstractStringBuilder;" } : Jvm.MethodName) prog_27_method_31_code (2 : Nat) (Option.some (Jvm.ClassFile.FieldType.object "java/lang/AbstractStringBuilder"))) ∈ lw_all := lw_g (lw_at lw_m1 233 rfl) rfl
theorem q359 : (Jvm.Cond.methodLink "java/lang/AbstractStringBuilder" (100 : Nat) ({ cls := "java/lang/AbstractStringBuilder", name := "ensureCapacityInternal", desc := "(I)V" } : Jvm.MethodName)) ∈ lw_all := lw_g (lw_at lw_m1 234 rfl) rfl
theorem q360 : (Jvm.Cond.privateMethod ({ cls := "java/lang/AbstractStringBuilder", name := "ensureCapacityInternal", desc := "(I)V" } : Jvm.MethodName)) ∈ lw_tbl := lw_at lw_m1 235 rfl
theorem q361 : (Jvm.Cond.instanceMethod ({ cls := "java/lang/AbstractStringBuilder", name := "ensureCapacityInternal", desc := "(I)V" } : Jvm.MethodName)) ∈ lw_all := lw_g (lw_at lw_m1 236 rfl) rfl
theorem q362 : (Jvm.Cond.code ({ cls := "java/lang/AbstractStringBuilder", name := "ensureCapacityInternal", desc := "(I)V" } : Jvm.MethodName) prog_27_method_9_code (3 : Nat) (Option.none : Option Jvm.ClassFile.FieldType)) ∈ lw_all := lw_g (lw_at lw_m1 237 rfl) rfl
theorem q363 : (Jvm.Cond.methodLink "java/lang/AbstractStringBuilder" (104 : Nat) ({ cls := "java/lang/AbstractStringBuilder", name := "newCapacity", desc := "(I)I" } : Jvm.MethodName)) ∈ lw_all := lw_g (lw_at lw_m1 238 rfl) rfl
theorem q364 : (Jvm.Cond.privateMethod ({ cls := "java/lang/AbstractStringBuilder", name := "newCapacity", desc := "(I)I" } : Jvm.MethodName)) ∈ lw_tbl := lw_at lw_m1 239 rfl
theorem q365 : (Jvm.Cond.instanceMethod ({ cls := "java/lang/AbstractStringBuilder", name := "newCapacity", desc := "(I)I" } : Jvm.MethodName)) ∈ lw_all := lw_g (lw_at lw_m2 0 rfl) rfl
theorem q366 : (Jvm.Cond.code ({ cls := "java/lang/AbstractStringBuilder", name := "newCapacity", desc := "(I)I" } : Jvm.MethodName) prog_27_method_10_code (6 : Nat) (Option.some Jvm.ClassFile.FieldType.int)) ∈ lw_all := lw_g (lw_at lw_m2 1 rfl) rfl
theorem q367 : (Jvm.Cond.methodLink "java/lang/AbstractStringBuilder" (114 : Nat) ({ cls := "jdk/internal/util/ArraysSupport", name := "newLength", desc := "(III)I" } : Jvm.MethodName)) ∈ lw_all := lw_g (lw_at lw_m2 2 rfl) rfl
theorem q377 : (Jvm.Cond.constant "java/lang/AbstractStringBuilder" (39 : Nat) (2147483647 : Int32)) ∈ lw_all := lw_g (lw_at lw_m2 12 rfl) rfl
theorem q378 : (Jvm.Cond.methodLink "java/lang/AbstractStringBuilder" (108 : Nat) ({ cls := "java/util/Arrays", name := "copyOf", desc := "([BI)[B" } : Jvm.MethodName)) ∈ lw_all := lw_g (lw_at lw_m2 13 rfl) rfl
theorem q394 : (Jvm.Cond.methodLink "java/lang/AbstractStringBuilder" (83 : Nat) ({ cls := "java/lang/AbstractStringBuilder", name := "isLatin1", desc := "()Z" } : Jvm.MethodName)) ∈ lw_all := lw_g (lw_at lw_m2 29 rfl) rfl
theorem q395 : (Jvm.Cond.instanceMethod ({ cls := "java/lang/AbstractStringBuilder", name := "isLatin1", desc := "()Z" } : Jvm.MethodName)) ∈ lw_all := lw_g (lw_at lw_m2 30 rfl) rfl
theorem q396 : (Jvm.Cond.sameMethod "java/lang/AbstractStringBuilder" "java/lang/AbstractStringBuilder" "isLatin1" "()Z") ∈ lw_all := lw_g (lw_at lw_m2 31 rfl) rfl
theorem q398 : (Jvm.Cond.code ({ cls := "java/lang/AbstractStringBuilder", name := "isLatin1", desc := "()Z" } : Jvm.MethodName) prog_27_method_68_code (1 : Nat) (Option.some Jvm.ClassFile.FieldType.boolean)) ∈ lw_all := lw_g (lw_at lw_m2 33 rfl) rfl
theorem q399 : (Jvm.Cond.methodLink "java/lang/AbstractStringBuilder" (191 : Nat) ({ cls := "java/lang/StringLatin1", name := "canEncode", desc := "(C)Z" } : Jvm.MethodName)) ∈ lw_all := lw_g (lw_at lw_m2 34 rfl) rfl
theorem q402 : (Jvm.Cond.methodLink "java/lang/AbstractStringBuilder" (195 : Nat) ({ cls := "java/lang/AbstractStringBuilder", name := "inflate", desc := "()V" } : Jvm.MethodName)) ∈ lw_all := lw_g (lw_at lw_m2 37 rfl) rfl
theorem q403 : (Jvm.Cond.privateMethod ({ cls := "java/lang/AbstractStringBuilder", name := "inflate", desc := "()V" } : Jvm.MethodName)) ∈ lw_tbl := lw_at lw_m2 38 rfl
theorem q404 : (Jvm.Cond.instanceMethod ({ cls := "java/lang/AbstractStringBuilder", name := "inflate", desc := "()V" } : Jvm.MethodName)) ∈ lw_all := lw_g (lw_at lw_m2 39 rfl) rfl
theorem q405 : (Jvm.Cond.code ({ cls := "java/lang/AbstractStringBuilder", name := "inflate", desc := "()V" } : Jvm.MethodName) prog_27_method_11_code (2 : Nat) (Option.none : Option Jvm.ClassFile.FieldType)) ∈ lw_all := lw_g (lw_at lw_m2 40 rfl) rfl
theorem q406 : (Jvm.Cond.methodLink "java/lang/AbstractStringBuilder" (125 : Nat) ({ cls := "java/lang/StringLatin1", name := "inflate", desc := "([BI[BII)V" } : Jvm.MethodName)) ∈ lw_all := lw_g (lw_at lw_m2 41 rfl) rfl
theorem q435 : (Jvm.Cond.methodLink "java/lang/AbstractStringBuilder" (197 : Nat) ({ cls := "java/lang/StringUTF16", name := "putCharSB", desc := "([BII)V" } : Jvm.MethodName)) ∈ lw_all := lw_g (lw_at lw_m2 70 rfl) rfl
theorem q461 : (Jvm.Cond.instanceMethod ({ cls := "java/lang/AbstractStringBuilder", name := "getValue", desc := "()[B" } : Jvm.MethodName)) ∈ lw_all := lw_g (lw_at lw_m2 96 rfl) rfl
theorem q462 : (Jvm.Cond.sameMethod "java/lang/AbstractStringBuilder" "java/lang/AbstractStringBuilder" "getValue" "()[B") ∈ lw_all := lw_g (lw_at lw_m2 97 rfl) rfl
theorem q464 : (Jvm.Cond.code ({ cls := "java/lang/AbstractStringBuilder", name := "getValue", desc := "()[B" } : Jvm.MethodName) prog_27_method_64_code (1 : Nat) (Option.some (Jvm.ClassFile.FieldType.array Jvm.ClassFile.FieldType.byte))) ∈ lw_all := lw_g (lw_at lw_m2 99 rfl) rfl
theorem q2072 : (Jvm.Cond.instanceMethod ({ cls := "java/lang/AbstractStringBuilder", name := "append", desc := "(Ljava/lang/String;)Ljava/lang/AbstractStringBuilder;" } : Jvm.MethodName)) ∈ lw_all := lw_g (lw_at lw_m9 27 rfl) rfl
theorem q2073 : (Jvm.Cond.code ({ cls := "java/lang/AbstractStringBuilder", name := "append", desc := "(Ljava/lang/String;)Ljava/lang/AbstractStringBuilder;" } : Jvm.MethodName) prog_27_method_22_code (3 : Nat) (Option.some (Jvm.ClassFile.FieldType.object "java/lang/AbstractStringBuilder"))) ∈ lw_all := lw_g (lw_at lw_m9 28 rfl) rfl
theorem q2074 : (Jvm.Cond.methodLink "java/lang/AbstractStringBuilder" (204 : Nat) ({ cls := "java/lang/AbstractStringBuilder", name := "appendNull", desc := "()Ljava/lang/AbstractStringBuilder;" } : Jvm.MethodName)) ∈ lw_all := lw_g (lw_at lw_m9 29 rfl) rfl
theorem q2075 : (Jvm.Cond.privateMethod ({ cls := "java/lang/AbstractStringBuilder", name := "appendNull", desc := "()Ljava/lang/AbstractStringBuilder;" } : Jvm.MethodName)) ∈ lw_tbl := lw_at lw_m9 30 rfl
theorem q2076 : (Jvm.Cond.instanceMethod ({ cls := "java/lang/AbstractStringBuilder", name := "appendNull", desc := "()Ljava/lang/AbstractStringBuilder;" } : Jvm.MethodName)) ∈ lw_all := lw_g (lw_at lw_m9 31 rfl) rfl
theorem q2077 : (Jvm.Cond.code ({ cls := "java/lang/AbstractStringBuilder", name := "appendNull", desc := "()Ljava/lang/AbstractStringBuilder;" } : Jvm.MethodName) prog_27_method_26_code (3 : Nat) (Option.some (Jvm.ClassFile.FieldType.object "java/lang/AbstractStringBuilder"))) ∈ lw_all := lw_g (lw_at lw_m9 32 rfl) rfl
theorem q2078 : (Jvm.Cond.methodLink "java/lang/AbstractStringBuilder" (226 : Nat) ({ cls := "java/lang/StringUTF16", name := "putCharsAt", desc := "([BICCCC)I" } : Jvm.MethodName)) ∈ lw_all := lw_g (lw_at lw_m9 33 rfl) rfl
theorem q2085 : (Jvm.Cond.methodLink "java/lang/AbstractStringBuilder" (32 : Nat) ({ cls := "java/lang/String", name := "length", desc := "()I" } : Jvm.MethodName)) ∈ lw_all := lw_g (lw_at lw_m9 40 rfl) rfl
theorem q2086 : (Jvm.Cond.methodLink "java/lang/AbstractStringBuilder" (208 : Nat) ({ cls := "java/lang/AbstractStringBuilder", name := "putStringAt", desc := "(ILjava/lang/String;)V" } : Jvm.MethodName)) ∈ lw_all := lw_g (lw_at lw_m9 41 rfl) rfl
theorem q2087 : (Jvm.Cond.privateMethod ({ cls := "java/lang/AbstractStringBuilder", name := "putStringAt", desc := "(ILjava/lang/String;)V" } : Jvm.MethodName)) ∈ lw_tbl := lw_at lw_m9 42 rfl
theorem q2088 : (Jvm.Cond.instanceMethod ({ cls := "java/lang/AbstractStringBuilder", name := "putStringAt", desc := "(ILjava/lang/String;)V" } : Jvm.MethodName)) ∈ lw_all := lw_g (lw_at lw_m9 43 rfl) rfl
theorem q2089 : (Jvm.Cond.code ({ cls := "java/lang/AbstractStringBuilder", name := "putStringAt", desc := "(ILjava/lang/String;)V" } : Jvm.MethodName) prog_27_method_73_code (3 : Nat) (Option.none : Option Jvm.ClassFile.FieldType)) ∈ lw_all := lw_g (lw_at lw_m9 44 rfl) rfl
theorem q2090 : (Jvm.Cond.methodLink "java/lang/AbstractStringBuilder" (397 : Nat) ({ cls := "java/lang/AbstractStringBuilder", name := "inflateIfNeededFor", desc := "(Ljava/lang/String;)V" } : Jvm.MethodName)) ∈ lw_all := lw_g (lw_at lw_m9 45 rfl) rfl
theorem q2091 : (Jvm.Cond.privateMethod ({ cls := "java/lang/AbstractStringBuilder", name := "inflateIfNeededFor", desc := "(Ljava/lang/String;)V" } : Jvm.MethodName)) ∈ lw_tbl := lw_at lw_m9 46 rfl
theorem q2092 : (Jvm.Cond.instanceMethod ({ cls := "java/lang/AbstractStringBuilder", name := "inflateIfNeededFor", desc := "(Ljava/lang/String;)V" } : Jvm.MethodName)) ∈ lw_all := lw_g (lw_at lw_m9 47 rfl) rfl
theorem q2093 : (Jvm.Cond.code ({ cls := "java/lang/AbstractStringBuilder", name := "inflateIfNeededFor", desc := "(Ljava/lang/String;)V" } : Jvm.MethodName) prog_27_method_71_code (2 : Nat) (Option.none : Option Jvm.ClassFile.FieldType)) ∈ lw_all := lw_g (lw_at lw_m9 48 rfl) rfl
theorem q2094 : (Jvm.Cond.methodLink "java/lang/AbstractStringBuilder" (40 : Nat) ({ cls := "java/lang/String", name := "coder", desc := "()B" } : Jvm.MethodName)) ∈ lw_all := lw_g (lw_at lw_m9 49 rfl) rfl
theorem q2095 : (Jvm.Cond.methodLink "java/lang/AbstractStringBuilder" (399 : Nat) ({ cls := "java/lang/String", name := "getBytes", desc := "([BIB)V" } : Jvm.MethodName)) ∈ lw_all := lw_g (lw_at lw_m9 50 rfl) rfl
theorem q2949 : (Jvm.Cond.sameMethod "java/lang/AbstractStringBuilder" "java/lang/AbstractStringBuilder" "length" "()I") ∈ lw_all := lw_g (lw_at lw_m12 184 rfl) rfl
theorem q2950 : (Jvm.Cond.sameMethod "java/lang/AbstractStringBuilder" "java/lang/AbstractStringBuilder" "append" "(C)Ljava/lang/AbstractStringBuilder;") ∈ lw_all := lw_g (lw_at lw_m12 185 rfl) rfl
theorem q2951 : (Jvm.Cond.sameMethod "java/lang/AbstractStringBuilder" "java/lang/AbstractStringBuilder" "ensureCapacityInternal" "(I)V") ∈ lw_all := lw_g (lw_at lw_m12 186 rfl) rfl
theorem q2952 : (Jvm.Cond.sameMethod "java/lang/AbstractStringBuilder" "java/lang/AbstractStringBuilder" "newCapacity" "(I)I") ∈ lw_all := lw_g (lw_at lw_m12 187 rfl) rfl
theorem q2953 : (Jvm.Cond.sameMethod "java/lang/AbstractStringBuilder" "java/lang/AbstractStringBuilder" "inflate" "()V") ∈ lw_all := lw_g (lw_at lw_m12 188 rfl) rfl
theorem q2968 : (Jvm.Cond.sameMethod "java/lang/AbstractStringBuilder" "java/lang/AbstractStringBuilder" "append" "(Ljava/lang/String;)Ljava/lang/AbstractStringBuilder;") ∈ lw_all := lw_g (lw_at lw_m12 203 rfl) rfl
theorem q2969 : (Jvm.Cond.sameMethod "java/lang/AbstractStringBuilder" "java/lang/AbstractStringBuilder" "appendNull" "()Ljava/lang/AbstractStringBuilder;") ∈ lw_all := lw_g (lw_at lw_m12 204 rfl) rfl
theorem q2970 : (Jvm.Cond.sameMethod "java/lang/AbstractStringBuilder" "java/lang/AbstractStringBuilder" "putStringAt" "(ILjava/lang/String;)V") ∈ lw_all := lw_g (lw_at lw_m12 205 rfl) rfl
theorem q2971 : (Jvm.Cond.sameMethod "java/lang/AbstractStringBuilder" "java/lang/AbstractStringBuilder" "inflateIfNeededFor" "(Ljava/lang/String;)V") ∈ lw_all := lw_g (lw_at lw_m12 206 rfl) rfl

/-! java/lang/StringBuilder -/
set_option maxRecDepth 100000
def RJ5 : String := "java/lang/StringBuilder"
def TJ5 : u_T := fun k => match k with
  | 0 => ("java/lang/AbstractStringBuilder", "value", "[B", false)
  | 1 => ("java/lang/AbstractStringBuilder", "coder", "B", false)
  | 2 => ("java/lang/AbstractStringBuilder", "maybeLatin1", "Z", false)
  | _ => ("java/lang/AbstractStringBuilder", "count", "I", false)
def tyJ5 : Nat → FieldType := fun k => match k with
  | 0 => .array .byte
  | 1 => .byte
  | 2 => .boolean
  | _ => .int
abbrev wsJ50 : List Cond := u_ws RJ5 TJ5 4
theorem nmJ5 : ∀ a, a < 4 → ∀ b, b < 4 → a ≠ b → (TJ5 a).2.1 ≠ (TJ5 b).2.1 := by decide +kernel
theorem tyJ5_ok : ∀ k, k < 4 → parseFieldDescriptor (TJ5 k).2.2.1 = some (tyJ5 k) := by decide +kernel
abbrev cJ5_init : ByteArray := prog_41_method_2_code
def yJ5_init : MethodName := ⟨RJ5, "<init>", "(I)V"⟩
def dkwJ5_init_0 : List UInt8 := [42, 27, 183, 0, 1, 177]
abbrev dktJ5_init_0 : List UInt8 := dkwJ5_init_0 ++ []
theorem dksJ5_init_0 : cJ5_init.data.toList.drop 0 = dktJ5_init_0 := by decide +kernel
theorem dJ5_init_0 : decode cJ5_init 0 = .ok (.aload_n 0, 1) := dk_42 (dk_at dksJ5_init_0 0 rfl rfl)
theorem dJ5_init_1 : decode cJ5_init 1 = .ok (.iload_n 1, 1) := dk_27 (dk_at dksJ5_init_0 1 rfl rfl)
theorem dJ5_init_2 : decode cJ5_init 2 = .ok (.invokespecial 1, 3) := dk_183 0 1 (dk_at dksJ5_init_0 2 rfl rfl)
theorem dJ5_init_5 : decode cJ5_init 5 = .ok (.return_, 1) := dk_177 (dk_at dksJ5_init_0 5 rfl rfl)
abbrev cJ5_length : ByteArray := prog_41_method_93_code
def yJ5_length : MethodName := ⟨RJ5, "length", "()I"⟩
theorem dJ5_length_0 : decode cJ5_length 0 = .ok (.aload_n 0, 1) := by decide +kernel
theorem dJ5_length_1 : decode cJ5_length 1 = .ok (.invokespecial 343, 3) := by decide +kernel
theorem dJ5_length_4 : decode cJ5_length 4 = .ok (.ireturn, 1) := by decide +kernel
abbrev cJ5_append : ByteArray := prog_41_method_14_code
def yJ5_append : MethodName := ⟨RJ5, "append", "(C)Ljava/lang/StringBuilder;"⟩
def dkwJ5_append_0 : List UInt8 := [42, 27, 183, 0, 50, 87, 42, 176]
abbrev dktJ5_append_0 : List UInt8 := dkwJ5_append_0 ++ []
theorem dksJ5_append_0 : cJ5_append.data.toList.drop 0 = dktJ5_append_0 := by decide +kernel
theorem dJ5_append_0 : decode cJ5_append 0 = .ok (.aload_n 0, 1) := dk_42 (dk_at dksJ5_append_0 0 rfl rfl)
theorem dJ5_append_1 : decode cJ5_append 1 = .ok (.iload_n 1, 1) := dk_27 (dk_at dksJ5_append_0 1 rfl rfl)
theorem dJ5_append_2 : decode cJ5_append 2 = .ok (.invokespecial 50, 3) := dk_183 0 50 (dk_at dksJ5_append_0 2 rfl rfl)
theorem dJ5_append_5 : decode cJ5_append 5 = .ok (.pop, 1) := dk_87 (dk_at dksJ5_append_0 5 rfl rfl)
theorem dJ5_append_6 : decode cJ5_append 6 = .ok (.aload_n 0, 1) := dk_42 (dk_at dksJ5_append_0 6 rfl rfl)
theorem dJ5_append_7 : decode cJ5_append 7 = .ok (.areturn, 1) := dk_176 (dk_at dksJ5_append_0 7 rfl rfl)
abbrev cJ5_toString : ByteArray := prog_41_method_42_code
def yJ5_toString : MethodName := ⟨RJ5, "toString", "()Ljava/lang/String;"⟩
def dkwJ5_toString_0 : List UInt8 := [187, 0, 18, 89, 42, 183, 0, 137, 176]
abbrev dktJ5_toString_0 : List UInt8 := dkwJ5_toString_0 ++ []
theorem dksJ5_toString_0 : cJ5_toString.data.toList.drop 0 = dktJ5_toString_0 := by decide +kernel
theorem dJ5_toString_0 : decode cJ5_toString 0 = .ok (.new 18, 3) := dk_187 0 18 (dk_at dksJ5_toString_0 0 rfl rfl)
theorem dJ5_toString_3 : decode cJ5_toString 3 = .ok (.dup, 1) := dk_89 (dk_at dksJ5_toString_0 3 rfl rfl)
theorem dJ5_toString_4 : decode cJ5_toString 4 = .ok (.aload_n 0, 1) := dk_42 (dk_at dksJ5_toString_0 4 rfl rfl)
theorem dJ5_toString_5 : decode cJ5_toString 5 = .ok (.invokespecial 137, 3) := dk_183 0 137 (dk_at dksJ5_toString_0 5 rfl rfl)
theorem dJ5_toString_8 : decode cJ5_toString 8 = .ok (.areturn, 1) := dk_176 (dk_at dksJ5_toString_0 8 rfl rfl)
abbrev cJ5_append_2 : ByteArray := prog_41_method_7_code
def yJ5_append_2 : MethodName := ⟨RJ5, "append", "(Ljava/lang/String;)Ljava/lang/StringBuilder;"⟩
def dkwJ5_append_2_0 : List UInt8 := [42, 43, 183, 0, 29, 87, 42, 176]
abbrev dktJ5_append_2_0 : List UInt8 := dkwJ5_append_2_0 ++ []
theorem dksJ5_append_2_0 : cJ5_append_2.data.toList.drop 0 = dktJ5_append_2_0 := by decide +kernel
theorem dJ5_append_2_0 : decode cJ5_append_2 0 = .ok (.aload_n 0, 1) := dk_42 (dk_at dksJ5_append_2_0 0 rfl rfl)
theorem dJ5_append_2_1 : decode cJ5_append_2 1 = .ok (.aload_n 1, 1) := dk_43 (dk_at dksJ5_append_2_0 1 rfl rfl)
theorem dJ5_append_2_2 : decode cJ5_append_2 2 = .ok (.invokespecial 29, 3) := dk_183 0 29 (dk_at dksJ5_append_2_0 2 rfl rfl)
theorem dJ5_append_2_5 : decode cJ5_append_2 5 = .ok (.pop, 1) := dk_87 (dk_at dksJ5_append_2_0 5 rfl rfl)
theorem dJ5_append_2_6 : decode cJ5_append_2 6 = .ok (.aload_n 0, 1) := dk_42 (dk_at dksJ5_append_2_0 6 rfl rfl)
theorem dJ5_append_2_7 : decode cJ5_append_2 7 = .ok (.areturn, 1) := dk_176 (dk_at dksJ5_append_2_0 7 rfl rfl)
theorem q137 : (Jvm.Cond.initialized "java/lang/StringBuilder") ∈ lw_all := lw_g (lw_at lw_m1 12 rfl) rfl
theorem q315 : (Jvm.Cond.instantiable "java/lang/StringBuilder" (4 : Nat)) ∈ lw_all := lw_g (lw_at lw_m1 190 rfl) rfl
theorem q317 : (Jvm.Cond.instanceMethod ({ cls := "java/lang/StringBuilder", name := "<init>", desc := "(I)V" } : Jvm.MethodName)) ∈ lw_all := lw_g (lw_at lw_m1 192 rfl) rfl
theorem q318 : (Jvm.Cond.code ({ cls := "java/lang/StringBuilder", name := "<init>", desc := "(I)V" } : Jvm.MethodName) prog_41_method_2_code (2 : Nat) (Option.none : Option Jvm.ClassFile.FieldType)) ∈ lw_all := lw_g (lw_at lw_m1 193 rfl) rfl
theorem q319 : (Jvm.Cond.methodLink "java/lang/StringBuilder" (1 : Nat) ({ cls := "java/lang/AbstractStringBuilder", name := "<init>", desc := "(I)V" } : Jvm.MethodName)) ∈ lw_all := lw_g (lw_at lw_m1 194 rfl) rfl
theorem q336 : (Jvm.Cond.lays "java/lang/StringBuilder" "java/lang/AbstractStringBuilder" "value" "[B") ∈ lw_all := lw_g (lw_at lw_m1 211 rfl) rfl
theorem q338 : (Jvm.Cond.lays "java/lang/StringBuilder" "java/lang/AbstractStringBuilder" "coder" "B") ∈ lw_all := lw_g (lw_at lw_m1 213 rfl) rfl
theorem q340 : (Jvm.Cond.lays "java/lang/StringBuilder" "java/lang/AbstractStringBuilder" "maybeLatin1" "Z") ∈ lw_all := lw_g (lw_at lw_m1 215 rfl) rfl
theorem q342 : (Jvm.Cond.lays "java/lang/StringBuilder" "java/lang/AbstractStringBuilder" "count" "I") ∈ lw_all := lw_g (lw_at lw_m1 217 rfl) rfl
theorem q344 : (Jvm.Cond.superclass "java/lang/StringBuilder" "java/lang/AbstractStringBuilder") ∈ lw_all := lw_g (lw_at lw_m1 219 rfl) rfl
theorem q346 : (Jvm.Cond.instanceMethod ({ cls := "java/lang/StringBuilder", name := "length", desc := "()I" } : Jvm.MethodName)) ∈ lw_all := lw_g (lw_at lw_m1 221 rfl) rfl
theorem q347 : (Jvm.Cond.selects "java/lang/StringBuilder" ({ cls := "java/lang/StringBuilder", name := "length", desc := "()I" } : Jvm.MethodName) ({ cls := "java/lang/StringBuilder", name := "length", desc := "()I" } : Jvm.MethodName)) ∈ lw_all := lw_g (lw_at lw_m1 222 rfl) rfl
theorem q348 : (Jvm.Cond.code ({ cls := "java/lang/StringBuilder", name := "length", desc := "()I" } : Jvm.MethodName) prog_41_method_93_code (1 : Nat) (Option.some Jvm.ClassFile.FieldType.int)) ∈ lw_all := lw_g (lw_at lw_m1 223 rfl) rfl
theorem q349 : (Jvm.Cond.methodLink "java/lang/StringBuilder" (343 : Nat) ({ cls := "java/lang/AbstractStringBuilder", name := "length", desc := "()I" } : Jvm.MethodName)) ∈ lw_all := lw_g (lw_at lw_m1 224 rfl) rfl
theorem q353 : (Jvm.Cond.instanceMethod ({ cls := "java/lang/StringBuilder", name := "append", desc := "(C)Ljava/lang/StringBuilder;" } : Jvm.MethodName)) ∈ lw_all := lw_g (lw_at lw_m1 228 rfl) rfl
theorem q354 : (Jvm.Cond.selects "java/lang/StringBuilder" ({ cls := "java/lang/StringBuilder", name := "append", desc := "(C)Ljava/lang/StringBuilder;" } : Jvm.MethodName) ({ cls := "java/lang/StringBuilder", name := "append", desc := "(C)Ljava/lang/StringBuilder;" } : Jvm.MethodName)) ∈ lw_all := lw_g (lw_at lw_m1 229 rfl) rfl
theorem q355 : (Jvm.Cond.code ({ cls := "java/lang/StringBuilder", name := "append", desc := "(C)Ljava/lang/StringBuilder;" } : Jvm.MethodName) prog_41_method_14_code (2 : Nat) (Option.some (Jvm.ClassFile.FieldType.object "java/lang/StringBuilder"))) ∈ lw_all := lw_g (lw_at lw_m1 230 rfl) rfl
theorem q356 : (Jvm.Cond.methodLink "java/lang/StringBuilder" (50 : Nat) ({ cls := "java/lang/AbstractStringBuilder", name := "append", desc := "(C)Ljava/lang/AbstractStringBuilder;" } : Jvm.MethodName)) ∈ lw_all := lw_g (lw_at lw_m1 231 rfl) rfl
theorem q397 : (Jvm.Cond.selects "java/lang/StringBuilder" ({ cls := "java/lang/AbstractStringBuilder", name := "isLatin1", desc := "()Z" } : Jvm.MethodName) ({ cls := "java/lang/AbstractStringBuilder", name := "isLatin1", desc := "()Z" } : Jvm.MethodName)) ∈ lw_all := lw_g (lw_at lw_m2 32 rfl) rfl
theorem q448 : (Jvm.Cond.instanceMethod ({ cls := "java/lang/StringBuilder", name := "toString", desc := "()Ljava/lang/String;" } : Jvm.MethodName)) ∈ lw_all := lw_g (lw_at lw_m2 83 rfl) rfl
theorem q449 : (Jvm.Cond.selects "java/lang/StringBuilder" ({ cls := "java/lang/StringBuilder", name := "toString", desc := "()Ljava/lang/String;" } : Jvm.MethodName) ({ cls := "java/lang/StringBuilder", name := "toString", desc := "()Ljava/lang/String;" } : Jvm.MethodName)) ∈ lw_all := lw_g (lw_at lw_m2 84 rfl) rfl
theorem q450 : (Jvm.Cond.code ({ cls := "java/lang/StringBuilder", name := "toString", desc := "()Ljava/lang/String;" } : Jvm.MethodName) prog_41_method_42_code (1 : Nat) (Option.some (Jvm.ClassFile.FieldType.object "java/lang/String"))) ∈ lw_all := lw_g (lw_at lw_m2 85 rfl) rfl
theorem q451 : (Jvm.Cond.classLink "java/lang/StringBuilder" (18 : Nat) "java/lang/String") ∈ lw_all := lw_g (lw_at lw_m2 86 rfl) rfl
theorem q453 : (Jvm.Cond.methodLink "java/lang/StringBuilder" (137 : Nat) ({ cls := "java/lang/String", name := "<init>", desc := "(Ljava/lang/StringBuilder;)V" } : Jvm.MethodName)) ∈ lw_all := lw_g (lw_at lw_m2 88 rfl) rfl
theorem q463 : (Jvm.Cond.selects "java/lang/StringBuilder" ({ cls := "java/lang/AbstractStringBuilder", name := "getValue", desc := "()[B" } : Jvm.MethodName) ({ cls := "java/lang/AbstractStringBuilder", name := "getValue", desc := "()[B" } : Jvm.MethodName)) ∈ lw_all := lw_g (lw_at lw_m2 98 rfl) rfl
theorem q781 : (Jvm.Cond.selects "java/lang/StringBuilder" ({ cls := "java/lang/Object", name := "getClass", desc := "()Ljava/lang/Class;" } : Jvm.MethodName) ({ cls := "java/lang/Object", name := "getClass", desc := "()Ljava/lang/Class;" } : Jvm.MethodName)) ∈ lw_all := lw_g (lw_at lw_m3 176 rfl) rfl
theorem q2068 : (Jvm.Cond.instanceMethod ({ cls := "java/lang/StringBuilder", name := "append", desc := "(Ljava/lang/String;)Ljava/lang/StringBuilder;" } : Jvm.MethodName)) ∈ lw_all := lw_g (lw_at lw_m9 23 rfl) rfl
theorem q2069 : (Jvm.Cond.selects "java/lang/StringBuilder" ({ cls := "java/lang/StringBuilder", name := "append", desc := "(Ljava/lang/String;)Ljava/lang/StringBuilder;" } : Jvm.MethodName) ({ cls := "java/lang/StringBuilder", name := "append", desc := "(Ljava/lang/String;)Ljava/lang/StringBuilder;" } : Jvm.MethodName)) ∈ lw_all := lw_g (lw_at lw_m9 24 rfl) rfl
theorem q2070 : (Jvm.Cond.code ({ cls := "java/lang/StringBuilder", name := "append", desc := "(Ljava/lang/String;)Ljava/lang/StringBuilder;" } : Jvm.MethodName) prog_41_method_7_code (2 : Nat) (Option.some (Jvm.ClassFile.FieldType.object "java/lang/StringBuilder"))) ∈ lw_all := lw_g (lw_at lw_m9 25 rfl) rfl
theorem q2071 : (Jvm.Cond.methodLink "java/lang/StringBuilder" (29 : Nat) ({ cls := "java/lang/AbstractStringBuilder", name := "append", desc := "(Ljava/lang/String;)Ljava/lang/AbstractStringBuilder;" } : Jvm.MethodName)) ∈ lw_all := lw_g (lw_at lw_m9 26 rfl) rfl
theorem q2954 : (Jvm.Cond.selects "java/lang/StringBuilder" ({ cls := "java/lang/AbstractStringBuilder", name := "length", desc := "()I" } : Jvm.MethodName) ({ cls := "java/lang/StringBuilder", name := "length", desc := "()I" } : Jvm.MethodName)) ∈ lw_all := lw_g (lw_at lw_m12 189 rfl) rfl
theorem q2981 : (Jvm.Cond.castable "java/lang/StringBuilder" "java/lang/Object") ∈ lw_tbl := lw_at lw_m12 216 rfl
theorem in_J5 : ∀ w ∈ wsJ50, w ∈ lw_all := lw_in wsJ50 [336, 338, 340, 342] (by decide +kernel) (by decide +kernel)

/-! java/lang/String -/
set_option maxRecDepth 100000
def RJ6 : String := "java/lang/String"
def TJ6 : u_T := fun k => match k with
  | 0 => ("java/lang/String", "value", "[B", true)
  | 1 => ("java/lang/String", "coder", "B", true)
  | 2 => ("java/lang/String", "hash", "I", false)
  | _ => ("java/lang/String", "hashIsZero", "Z", false)
def tyJ6 : Nat → FieldType := fun k => match k with
  | 0 => .array .byte
  | 1 => .byte
  | 2 => .int
  | _ => .boolean
abbrev wsJ60 : List Cond := u_ws RJ6 TJ6 4
theorem nmJ6 : ∀ a, a < 4 → ∀ b, b < 4 → a ≠ b → (TJ6 a).2.1 ≠ (TJ6 b).2.1 := by decide +kernel
theorem tyJ6_ok : ∀ k, k < 4 → parseFieldDescriptor (TJ6 k).2.2.1 = some (tyJ6 k) := by decide +kernel
abbrev cJ6_checkBoundsOffCount : ByteArray := prog_40_method_157_code
def yJ6_checkBoundsOffCount : MethodName := ⟨RJ6, "checkBoundsOffCount", "(III)I"⟩
def dkwJ6_checkBoundsOffCount_0 : List UInt8 := [26, 27, 28, 178, 4, 29, 184, 4, 41, 172]
abbrev dktJ6_checkBoundsOffCount_0 : List UInt8 := dkwJ6_checkBoundsOffCount_0 ++ []
theorem dksJ6_checkBoundsOffCount_0 : cJ6_checkBoundsOffCount.data.toList.drop 0 = dktJ6_checkBoundsOffCount_0 := by decide +kernel
theorem dJ6_checkBoundsOffCount_0 : decode cJ6_checkBoundsOffCount 0 = .ok (.iload_n 0, 1) := dk_26 (dk_at dksJ6_checkBoundsOffCount_0 0 rfl rfl)
theorem dJ6_checkBoundsOffCount_1 : decode cJ6_checkBoundsOffCount 1 = .ok (.iload_n 1, 1) := dk_27 (dk_at dksJ6_checkBoundsOffCount_0 1 rfl rfl)
theorem dJ6_checkBoundsOffCount_2 : decode cJ6_checkBoundsOffCount 2 = .ok (.iload_n 2, 1) := dk_28 (dk_at dksJ6_checkBoundsOffCount_0 2 rfl rfl)
theorem dJ6_checkBoundsOffCount_3 : decode cJ6_checkBoundsOffCount 3 = .ok (.getstatic 1053, 3) := dk_178 4 29 (dk_at dksJ6_checkBoundsOffCount_0 3 rfl rfl)
theorem dJ6_checkBoundsOffCount_6 : decode cJ6_checkBoundsOffCount 6 = .ok (.invokestatic 1065, 3) := dk_184 4 41 (dk_at dksJ6_checkBoundsOffCount_0 6 rfl rfl)
theorem dJ6_checkBoundsOffCount_9 : decode cJ6_checkBoundsOffCount 9 = .ok (.ireturn, 1) := dk_172 (dk_at dksJ6_checkBoundsOffCount_0 9 rfl rfl)
abbrev cJ6_checkIndex : ByteArray := prog_40_method_155_code
def yJ6_checkIndex : MethodName := ⟨RJ6, "checkIndex", "(II)V"⟩
def dkwJ6_checkIndex_0 : List UInt8 := [26, 27, 178, 4, 29, 184, 4, 35, 87, 177]
abbrev dktJ6_checkIndex_0 : List UInt8 := dkwJ6_checkIndex_0 ++ []
theorem dksJ6_checkIndex_0 : cJ6_checkIndex.data.toList.drop 0 = dktJ6_checkIndex_0 := by decide +kernel
theorem dJ6_checkIndex_0 : decode cJ6_checkIndex 0 = .ok (.iload_n 0, 1) := dk_26 (dk_at dksJ6_checkIndex_0 0 rfl rfl)
theorem dJ6_checkIndex_1 : decode cJ6_checkIndex 1 = .ok (.iload_n 1, 1) := dk_27 (dk_at dksJ6_checkIndex_0 1 rfl rfl)
theorem dJ6_checkIndex_2 : decode cJ6_checkIndex 2 = .ok (.getstatic 1053, 3) := dk_178 4 29 (dk_at dksJ6_checkIndex_0 2 rfl rfl)
theorem dJ6_checkIndex_5 : decode cJ6_checkIndex 5 = .ok (.invokestatic 1059, 3) := dk_184 4 35 (dk_at dksJ6_checkIndex_0 5 rfl rfl)
theorem dJ6_checkIndex_8 : decode cJ6_checkIndex 8 = .ok (.pop, 1) := dk_87 (dk_at dksJ6_checkIndex_0 8 rfl rfl)
theorem dJ6_checkIndex_9 : decode cJ6_checkIndex 9 = .ok (.return_, 1) := dk_177 (dk_at dksJ6_checkIndex_0 9 rfl rfl)
abbrev cJ6_init : ByteArray := prog_40_method_53_code
def yJ6_init : MethodName := ⟨RJ6, "<init>", "(Ljava/lang/StringBuilder;)V"⟩
def dkwJ6_init_0 : List UInt8 := [42, 43, 1, 183, 1, 233, 177]
abbrev dktJ6_init_0 : List UInt8 := dkwJ6_init_0 ++ []
theorem dksJ6_init_0 : cJ6_init.data.toList.drop 0 = dktJ6_init_0 := by decide +kernel
theorem dJ6_init_0 : decode cJ6_init 0 = .ok (.aload_n 0, 1) := dk_42 (dk_at dksJ6_init_0 0 rfl rfl)
theorem dJ6_init_1 : decode cJ6_init 1 = .ok (.aload_n 1, 1) := dk_43 (dk_at dksJ6_init_0 1 rfl rfl)
theorem dJ6_init_2 : decode cJ6_init 2 = .ok (.aconst_null, 1) := dk_1 (dk_at dksJ6_init_0 2 rfl rfl)
theorem dJ6_init_3 : decode cJ6_init 3 = .ok (.invokespecial 489, 3) := dk_183 1 233 (dk_at dksJ6_init_0 3 rfl rfl)
theorem dJ6_init_6 : decode cJ6_init 6 = .ok (.return_, 1) := dk_177 (dk_at dksJ6_init_0 6 rfl rfl)
abbrev cJ6_init_2 : ByteArray := prog_40_method_150_code
def yJ6_init_2 : MethodName := ⟨RJ6, "<init>", "(Ljava/lang/AbstractStringBuilder;Ljava/lang/Void;)V"⟩
def dkwJ6_init_2_4 : List UInt8 := [181, 0, 9, 177]
abbrev dktJ6_init_2_4 : List UInt8 := dkwJ6_init_2_4 ++ []
def dkwJ6_init_2_3 : List UInt8 := [184, 0, 47, 181, 0, 15, 177, 42, 4, 181, 0, 15, 42, 45, 3, 21, 4, 4, 120, 184, 0, 54]
abbrev dktJ6_init_2_3 : List UInt8 := dkwJ6_init_2_3 ++ dktJ6_init_2_4
def dkwJ6_init_2_2 : List UInt8 := [180, 4, 24, 153, 0, 28, 42, 45, 3, 21, 4, 184, 4, 27, 181, 0, 9, 42, 42, 180, 0, 9, 21, 4]
abbrev dktJ6_init_2_2 : List UInt8 := dkwJ6_init_2_2 ++ dktJ6_init_2_3
def dkwJ6_init_2_1 : List UInt8 := [181, 0, 15, 42, 45, 3, 21, 4, 184, 0, 54, 181, 0, 9, 167, 0, 59, 178, 0, 38, 153, 0, 35, 43]
abbrev dktJ6_init_2_1 : List UInt8 := dkwJ6_init_2_1 ++ dktJ6_init_2_2
def dkwJ6_init_2_0 : List UInt8 := [42, 183, 0, 1, 43, 182, 2, 40, 78, 43, 182, 2, 37, 54, 4, 43, 182, 4, 23, 153, 0, 22, 42, 3]
abbrev dktJ6_init_2_0 : List UInt8 := dkwJ6_init_2_0 ++ dktJ6_init_2_1
theorem dksJ6_init_2_0 : cJ6_init_2.data.toList.drop 0 = dktJ6_init_2_0 := by decide +kernel
theorem dksJ6_init_2_1 : cJ6_init_2.data.toList.drop 24 = dktJ6_init_2_1 := dk_seg dksJ6_init_2_0 24 rfl rfl
theorem dksJ6_init_2_2 : cJ6_init_2.data.toList.drop 48 = dktJ6_init_2_2 := dk_seg dksJ6_init_2_1 24 rfl rfl
theorem dksJ6_init_2_3 : cJ6_init_2.data.toList.drop 72 = dktJ6_init_2_3 := dk_seg dksJ6_init_2_2 24 rfl rfl
theorem dksJ6_init_2_4 : cJ6_init_2.data.toList.drop 94 = dktJ6_init_2_4 := dk_seg dksJ6_init_2_3 22 rfl rfl
theorem dJ6_init_2_0 : decode cJ6_init_2 0 = .ok (.aload_n 0, 1) := dk_42 (dk_at dksJ6_init_2_0 0 rfl rfl)
theorem dJ6_init_2_1 : decode cJ6_init_2 1 = .ok (.invokespecial 1, 3) := dk_183 0 1 (dk_at dksJ6_init_2_0 1 rfl rfl)
theorem dJ6_init_2_4 : decode cJ6_init_2 4 = .ok (.aload_n 1, 1) := dk_43 (dk_at dksJ6_init_2_0 4 rfl rfl)
theorem dJ6_init_2_5 : decode cJ6_init_2 5 = .ok (.invokevirtual 552, 3) := dk_182 2 40 (dk_at dksJ6_init_2_0 5 rfl rfl)
theorem dJ6_init_2_8 : decode cJ6_init_2 8 = .ok (.astore_n 3, 1) := dk_78 (dk_at dksJ6_init_2_0 8 rfl rfl)
theorem dJ6_init_2_9 : decode cJ6_init_2 9 = .ok (.aload_n 1, 1) := dk_43 (dk_at dksJ6_init_2_0 9 rfl rfl)
theorem dJ6_init_2_10 : decode cJ6_init_2 10 = .ok (.invokevirtual 549, 3) := dk_182 2 37 (dk_at dksJ6_init_2_0 10 rfl rfl)
theorem dJ6_init_2_13 : decode cJ6_init_2 13 = .ok (.istore 4, 2) := dk_54 4 (dk_at dksJ6_init_2_0 13 rfl rfl)
theorem dJ6_init_2_15 : decode cJ6_init_2 15 = .ok (.aload_n 1, 1) := dk_43 (dk_at dksJ6_init_2_0 15 rfl rfl)
theorem dJ6_init_2_16 : decode cJ6_init_2 16 = .ok (.invokevirtual 1047, 3) := dk_182 4 23 (dk_at dksJ6_init_2_0 16 rfl rfl)
theorem dJ6_init_2_19 : decode cJ6_init_2 19 = .ok (.ifCond .eq 22, 3) := dk_153 0 22 (dk_at dksJ6_init_2_0 19 rfl rfl)
theorem dJ6_init_2_22 : decode cJ6_init_2 22 = .ok (.aload_n 0, 1) := dk_42 (dk_at dksJ6_init_2_0 22 rfl rfl)
theorem dJ6_init_2_23 : decode cJ6_init_2 23 = .ok (.iconst 0, 1) := dk_3 (dk_at dksJ6_init_2_0 23 rfl rfl)
theorem dJ6_init_2_24 : decode cJ6_init_2 24 = .ok (.putfield 15, 3) := dk_181 0 15 (dk_at dksJ6_init_2_1 0 rfl rfl)
theorem dJ6_init_2_27 : decode cJ6_init_2 27 = .ok (.aload_n 0, 1) := dk_42 (dk_at dksJ6_init_2_1 3 rfl rfl)
theorem dJ6_init_2_28 : decode cJ6_init_2 28 = .ok (.aload_n 3, 1) := dk_45 (dk_at dksJ6_init_2_1 4 rfl rfl)
theorem dJ6_init_2_29 : decode cJ6_init_2 29 = .ok (.iconst 0, 1) := dk_3 (dk_at dksJ6_init_2_1 5 rfl rfl)
theorem dJ6_init_2_30 : decode cJ6_init_2 30 = .ok (.iload 4, 2) := dk_21 4 (dk_at dksJ6_init_2_1 6 rfl rfl)
theorem dJ6_init_2_32 : decode cJ6_init_2 32 = .ok (.invokestatic 54, 3) := dk_184 0 54 (dk_at dksJ6_init_2_1 8 rfl rfl)
theorem dJ6_init_2_35 : decode cJ6_init_2 35 = .ok (.putfield 9, 3) := dk_181 0 9 (dk_at dksJ6_init_2_1 11 rfl rfl)
theorem dJ6_init_2_38 : decode cJ6_init_2 38 = .ok (.goto 59, 3) := dk_167 0 59 (dk_at dksJ6_init_2_1 14 rfl rfl)
theorem dJ6_init_2_41 : decode cJ6_init_2 41 = .ok (.getstatic 38, 3) := dk_178 0 38 (dk_at dksJ6_init_2_1 17 rfl rfl)
theorem dJ6_init_2_44 : decode cJ6_init_2 44 = .ok (.ifCond .eq 35, 3) := dk_153 0 35 (dk_at dksJ6_init_2_1 20 rfl rfl)
theorem dJ6_init_2_47 : decode cJ6_init_2 47 = .ok (.aload_n 1, 1) := dk_43 (dk_at dksJ6_init_2_1 23 rfl rfl)
theorem dJ6_init_2_48 : decode cJ6_init_2 48 = .ok (.getfield 1048, 3) := dk_180 4 24 (dk_at dksJ6_init_2_2 0 rfl rfl)
theorem dJ6_init_2_51 : decode cJ6_init_2 51 = .ok (.ifCond .eq 28, 3) := dk_153 0 28 (dk_at dksJ6_init_2_2 3 rfl rfl)
theorem dJ6_init_2_54 : decode cJ6_init_2 54 = .ok (.aload_n 0, 1) := dk_42 (dk_at dksJ6_init_2_2 6 rfl rfl)
theorem dJ6_init_2_55 : decode cJ6_init_2 55 = .ok (.aload_n 3, 1) := dk_45 (dk_at dksJ6_init_2_2 7 rfl rfl)
theorem dJ6_init_2_56 : decode cJ6_init_2 56 = .ok (.iconst 0, 1) := dk_3 (dk_at dksJ6_init_2_2 8 rfl rfl)
theorem dJ6_init_2_57 : decode cJ6_init_2 57 = .ok (.iload 4, 2) := dk_21 4 (dk_at dksJ6_init_2_2 9 rfl rfl)
theorem dJ6_init_2_59 : decode cJ6_init_2 59 = .ok (.invokestatic 1051, 3) := dk_184 4 27 (dk_at dksJ6_init_2_2 11 rfl rfl)
theorem dJ6_init_2_62 : decode cJ6_init_2 62 = .ok (.putfield 9, 3) := dk_181 0 9 (dk_at dksJ6_init_2_2 14 rfl rfl)
theorem dJ6_init_2_65 : decode cJ6_init_2 65 = .ok (.aload_n 0, 1) := dk_42 (dk_at dksJ6_init_2_2 17 rfl rfl)
theorem dJ6_init_2_66 : decode cJ6_init_2 66 = .ok (.aload_n 0, 1) := dk_42 (dk_at dksJ6_init_2_2 18 rfl rfl)
theorem dJ6_init_2_67 : decode cJ6_init_2 67 = .ok (.getfield 9, 3) := dk_180 0 9 (dk_at dksJ6_init_2_2 19 rfl rfl)
theorem dJ6_init_2_70 : decode cJ6_init_2 70 = .ok (.iload 4, 2) := dk_21 4 (dk_at dksJ6_init_2_2 22 rfl rfl)
theorem dJ6_init_2_72 : decode cJ6_init_2 72 = .ok (.invokestatic 47, 3) := dk_184 0 47 (dk_at dksJ6_init_2_3 0 rfl rfl)
theorem dJ6_init_2_75 : decode cJ6_init_2 75 = .ok (.putfield 15, 3) := dk_181 0 15 (dk_at dksJ6_init_2_3 3 rfl rfl)
theorem dJ6_init_2_78 : decode cJ6_init_2 78 = .ok (.return_, 1) := dk_177 (dk_at dksJ6_init_2_3 6 rfl rfl)
theorem dJ6_init_2_79 : decode cJ6_init_2 79 = .ok (.aload_n 0, 1) := dk_42 (dk_at dksJ6_init_2_3 7 rfl rfl)
theorem dJ6_init_2_80 : decode cJ6_init_2 80 = .ok (.iconst 1, 1) := dk_4 (dk_at dksJ6_init_2_3 8 rfl rfl)
theorem dJ6_init_2_81 : decode cJ6_init_2 81 = .ok (.putfield 15, 3) := dk_181 0 15 (dk_at dksJ6_init_2_3 9 rfl rfl)
theorem dJ6_init_2_84 : decode cJ6_init_2 84 = .ok (.aload_n 0, 1) := dk_42 (dk_at dksJ6_init_2_3 12 rfl rfl)
theorem dJ6_init_2_85 : decode cJ6_init_2 85 = .ok (.aload_n 3, 1) := dk_45 (dk_at dksJ6_init_2_3 13 rfl rfl)
theorem dJ6_init_2_86 : decode cJ6_init_2 86 = .ok (.iconst 0, 1) := dk_3 (dk_at dksJ6_init_2_3 14 rfl rfl)
theorem dJ6_init_2_87 : decode cJ6_init_2 87 = .ok (.iload 4, 2) := dk_21 4 (dk_at dksJ6_init_2_3 15 rfl rfl)
theorem dJ6_init_2_89 : decode cJ6_init_2 89 = .ok (.iconst 1, 1) := dk_4 (dk_at dksJ6_init_2_3 17 rfl rfl)
theorem dJ6_init_2_90 : decode cJ6_init_2 90 = .ok (.ishl, 1) := dk_120 (dk_at dksJ6_init_2_3 18 rfl rfl)
theorem dJ6_init_2_91 : decode cJ6_init_2 91 = .ok (.invokestatic 54, 3) := dk_184 0 54 (dk_at dksJ6_init_2_3 19 rfl rfl)
theorem dJ6_init_2_94 : decode cJ6_init_2 94 = .ok (.putfield 9, 3) := dk_181 0 9 (dk_at dksJ6_init_2_4 0 rfl rfl)
theorem dJ6_init_2_97 : decode cJ6_init_2 97 = .ok (.return_, 1) := dk_177 (dk_at dksJ6_init_2_4 3 rfl rfl)
abbrev cJ6_equals : ByteArray := prog_40_method_66_code
def yJ6_equals : MethodName := ⟨RJ6, "equals", "(Ljava/lang/Object;)Z"⟩
def dkwJ6_equals_2 : List UInt8 := [184, 2, 29, 153, 0, 7, 4, 167, 0, 4, 3, 172]
abbrev dktJ6_equals_2 : List UInt8 := dkwJ6_equals_2 ++ []
def dkwJ6_equals_1 : List UInt8 := [153, 0, 14, 42, 180, 0, 15, 44, 180, 0, 15, 160, 0, 21, 42, 180, 0, 9, 44, 180, 0, 9]
abbrev dktJ6_equals_1 : List UInt8 := dkwJ6_equals_1 ++ dktJ6_equals_2
def dkwJ6_equals_0 : List UInt8 := [42, 43, 166, 0, 5, 4, 172, 43, 193, 0, 10, 153, 0, 43, 43, 192, 0, 10, 77, 178, 0, 38]
abbrev dktJ6_equals_0 : List UInt8 := dkwJ6_equals_0 ++ dktJ6_equals_1
theorem dksJ6_equals_0 : cJ6_equals.data.toList.drop 0 = dktJ6_equals_0 := by decide +kernel
theorem dksJ6_equals_1 : cJ6_equals.data.toList.drop 22 = dktJ6_equals_1 := dk_seg dksJ6_equals_0 22 rfl rfl
theorem dksJ6_equals_2 : cJ6_equals.data.toList.drop 44 = dktJ6_equals_2 := dk_seg dksJ6_equals_1 22 rfl rfl
theorem dJ6_equals_0 : decode cJ6_equals 0 = .ok (.aload_n 0, 1) := dk_42 (dk_at dksJ6_equals_0 0 rfl rfl)
theorem dJ6_equals_1 : decode cJ6_equals 1 = .ok (.aload_n 1, 1) := dk_43 (dk_at dksJ6_equals_0 1 rfl rfl)
theorem dJ6_equals_2 : decode cJ6_equals 2 = .ok (.if_acmp .ne 5, 3) := dk_166 0 5 (dk_at dksJ6_equals_0 2 rfl rfl)
theorem dJ6_equals_5 : decode cJ6_equals 5 = .ok (.iconst 1, 1) := dk_4 (dk_at dksJ6_equals_0 5 rfl rfl)
theorem dJ6_equals_6 : decode cJ6_equals 6 = .ok (.ireturn, 1) := dk_172 (dk_at dksJ6_equals_0 6 rfl rfl)
theorem dJ6_equals_7 : decode cJ6_equals 7 = .ok (.aload_n 1, 1) := dk_43 (dk_at dksJ6_equals_0 7 rfl rfl)
theorem dJ6_equals_8 : decode cJ6_equals 8 = .ok (.instanceof 10, 3) := dk_193 0 10 (dk_at dksJ6_equals_0 8 rfl rfl)
theorem dJ6_equals_11 : decode cJ6_equals 11 = .ok (.ifCond .eq 43, 3) := dk_153 0 43 (dk_at dksJ6_equals_0 11 rfl rfl)
theorem dJ6_equals_14 : decode cJ6_equals 14 = .ok (.aload_n 1, 1) := dk_43 (dk_at dksJ6_equals_0 14 rfl rfl)
theorem dJ6_equals_15 : decode cJ6_equals 15 = .ok (.checkcast 10, 3) := dk_192 0 10 (dk_at dksJ6_equals_0 15 rfl rfl)
theorem dJ6_equals_18 : decode cJ6_equals 18 = .ok (.astore_n 2, 1) := dk_77 (dk_at dksJ6_equals_0 18 rfl rfl)
theorem dJ6_equals_19 : decode cJ6_equals 19 = .ok (.getstatic 38, 3) := dk_178 0 38 (dk_at dksJ6_equals_0 19 rfl rfl)
theorem dJ6_equals_22 : decode cJ6_equals 22 = .ok (.ifCond .eq 14, 3) := dk_153 0 14 (dk_at dksJ6_equals_1 0 rfl rfl)
theorem dJ6_equals_25 : decode cJ6_equals 25 = .ok (.aload_n 0, 1) := dk_42 (dk_at dksJ6_equals_1 3 rfl rfl)
theorem dJ6_equals_26 : decode cJ6_equals 26 = .ok (.getfield 15, 3) := dk_180 0 15 (dk_at dksJ6_equals_1 4 rfl rfl)
theorem dJ6_equals_29 : decode cJ6_equals 29 = .ok (.aload_n 2, 1) := dk_44 (dk_at dksJ6_equals_1 7 rfl rfl)
theorem dJ6_equals_30 : decode cJ6_equals 30 = .ok (.getfield 15, 3) := dk_180 0 15 (dk_at dksJ6_equals_1 8 rfl rfl)
theorem dJ6_equals_33 : decode cJ6_equals 33 = .ok (.if_icmp .ne 21, 3) := dk_160 0 21 (dk_at dksJ6_equals_1 11 rfl rfl)
theorem dJ6_equals_36 : decode cJ6_equals 36 = .ok (.aload_n 0, 1) := dk_42 (dk_at dksJ6_equals_1 14 rfl rfl)
theorem dJ6_equals_37 : decode cJ6_equals 37 = .ok (.getfield 9, 3) := dk_180 0 9 (dk_at dksJ6_equals_1 15 rfl rfl)
theorem dJ6_equals_40 : decode cJ6_equals 40 = .ok (.aload_n 2, 1) := dk_44 (dk_at dksJ6_equals_1 18 rfl rfl)
theorem dJ6_equals_41 : decode cJ6_equals 41 = .ok (.getfield 9, 3) := dk_180 0 9 (dk_at dksJ6_equals_1 19 rfl rfl)
theorem dJ6_equals_44 : decode cJ6_equals 44 = .ok (.invokestatic 541, 3) := dk_184 2 29 (dk_at dksJ6_equals_2 0 rfl rfl)
theorem dJ6_equals_47 : decode cJ6_equals 47 = .ok (.ifCond .eq 7, 3) := dk_153 0 7 (dk_at dksJ6_equals_2 3 rfl rfl)
theorem dJ6_equals_50 : decode cJ6_equals 50 = .ok (.iconst 1, 1) := dk_4 (dk_at dksJ6_equals_2 6 rfl rfl)
theorem dJ6_equals_51 : decode cJ6_equals 51 = .ok (.goto 4, 3) := dk_167 0 4 (dk_at dksJ6_equals_2 7 rfl rfl)
theorem dJ6_equals_54 : decode cJ6_equals 54 = .ok (.iconst 0, 1) := dk_3 (dk_at dksJ6_equals_2 10 rfl rfl)
theorem dJ6_equals_55 : decode cJ6_equals 55 = .ok (.ireturn, 1) := dk_172 (dk_at dksJ6_equals_2 11 rfl rfl)
abbrev cJ6_length : ByteArray := prog_40_method_54_code
def yJ6_length : MethodName := ⟨RJ6, "length", "()I"⟩
def dkwJ6_length_0 : List UInt8 := [42, 180, 0, 9, 190, 42, 182, 1, 79, 122, 172]
abbrev dktJ6_length_0 : List UInt8 := dkwJ6_length_0 ++ []
theorem dksJ6_length_0 : cJ6_length.data.toList.drop 0 = dktJ6_length_0 := by decide +kernel
theorem dJ6_length_0 : decode cJ6_length 0 = .ok (.aload_n 0, 1) := dk_42 (dk_at dksJ6_length_0 0 rfl rfl)
theorem dJ6_length_1 : decode cJ6_length 1 = .ok (.getfield 9, 3) := dk_180 0 9 (dk_at dksJ6_length_0 1 rfl rfl)
theorem dJ6_length_4 : decode cJ6_length 4 = .ok (.arraylength, 1) := dk_190 (dk_at dksJ6_length_0 4 rfl rfl)
theorem dJ6_length_5 : decode cJ6_length 5 = .ok (.aload_n 0, 1) := dk_42 (dk_at dksJ6_length_0 5 rfl rfl)
theorem dJ6_length_6 : decode cJ6_length 6 = .ok (.invokevirtual 335, 3) := dk_182 1 79 (dk_at dksJ6_length_0 6 rfl rfl)
theorem dJ6_length_9 : decode cJ6_length 9 = .ok (.ishr, 1) := dk_122 (dk_at dksJ6_length_0 9 rfl rfl)
theorem dJ6_length_10 : decode cJ6_length 10 = .ok (.ireturn, 1) := dk_172 (dk_at dksJ6_length_0 10 rfl rfl)
abbrev cJ6_coder : ByteArray := prog_40_method_152_code
def yJ6_coder : MethodName := ⟨RJ6, "coder", "()B"⟩
def dkwJ6_coder_0 : List UInt8 := [178, 0, 38, 153, 0, 10, 42, 180, 0, 15, 167, 0, 4, 4, 172]
abbrev dktJ6_coder_0 : List UInt8 := dkwJ6_coder_0 ++ []
theorem dksJ6_coder_0 : cJ6_coder.data.toList.drop 0 = dktJ6_coder_0 := by decide +kernel
theorem dJ6_coder_0 : decode cJ6_coder 0 = .ok (.getstatic 38, 3) := dk_178 0 38 (dk_at dksJ6_coder_0 0 rfl rfl)
theorem dJ6_coder_3 : decode cJ6_coder 3 = .ok (.ifCond .eq 10, 3) := dk_153 0 10 (dk_at dksJ6_coder_0 3 rfl rfl)
theorem dJ6_coder_6 : decode cJ6_coder 6 = .ok (.aload_n 0, 1) := dk_42 (dk_at dksJ6_coder_0 6 rfl rfl)
theorem dJ6_coder_7 : decode cJ6_coder 7 = .ok (.getfield 15, 3) := dk_180 0 15 (dk_at dksJ6_coder_0 7 rfl rfl)
theorem dJ6_coder_10 : decode cJ6_coder 10 = .ok (.goto 4, 3) := dk_167 0 4 (dk_at dksJ6_coder_0 10 rfl rfl)
theorem dJ6_coder_13 : decode cJ6_coder 13 = .ok (.iconst 1, 1) := dk_4 (dk_at dksJ6_coder_0 13 rfl rfl)
theorem dJ6_coder_14 : decode cJ6_coder 14 = .ok (.ireturn, 1) := dk_172 (dk_at dksJ6_coder_0 14 rfl rfl)
abbrev cJ6_charAt : ByteArray := prog_40_method_56_code
def yJ6_charAt : MethodName := ⟨RJ6, "charAt", "(I)C"⟩
def dkwJ6_charAt_1 : List UInt8 := [172]
abbrev dktJ6_charAt_1 : List UInt8 := dkwJ6_charAt_1 ++ []
def dkwJ6_charAt_0 : List UInt8 := [42, 182, 1, 236, 153, 0, 12, 42, 180, 0, 9, 27, 184, 1, 239, 172, 42, 180, 0, 9, 27, 184, 1, 242]
abbrev dktJ6_charAt_0 : List UInt8 := dkwJ6_charAt_0 ++ dktJ6_charAt_1
theorem dksJ6_charAt_0 : cJ6_charAt.data.toList.drop 0 = dktJ6_charAt_0 := by decide +kernel
theorem dksJ6_charAt_1 : cJ6_charAt.data.toList.drop 24 = dktJ6_charAt_1 := dk_seg dksJ6_charAt_0 24 rfl rfl
theorem dJ6_charAt_0 : decode cJ6_charAt 0 = .ok (.aload_n 0, 1) := dk_42 (dk_at dksJ6_charAt_0 0 rfl rfl)
theorem dJ6_charAt_1 : decode cJ6_charAt 1 = .ok (.invokevirtual 492, 3) := dk_182 1 236 (dk_at dksJ6_charAt_0 1 rfl rfl)
theorem dJ6_charAt_4 : decode cJ6_charAt 4 = .ok (.ifCond .eq 12, 3) := dk_153 0 12 (dk_at dksJ6_charAt_0 4 rfl rfl)
theorem dJ6_charAt_7 : decode cJ6_charAt 7 = .ok (.aload_n 0, 1) := dk_42 (dk_at dksJ6_charAt_0 7 rfl rfl)
theorem dJ6_charAt_8 : decode cJ6_charAt 8 = .ok (.getfield 9, 3) := dk_180 0 9 (dk_at dksJ6_charAt_0 8 rfl rfl)
theorem dJ6_charAt_11 : decode cJ6_charAt 11 = .ok (.iload_n 1, 1) := dk_27 (dk_at dksJ6_charAt_0 11 rfl rfl)
theorem dJ6_charAt_12 : decode cJ6_charAt 12 = .ok (.invokestatic 495, 3) := dk_184 1 239 (dk_at dksJ6_charAt_0 12 rfl rfl)
theorem dJ6_charAt_15 : decode cJ6_charAt 15 = .ok (.ireturn, 1) := dk_172 (dk_at dksJ6_charAt_0 15 rfl rfl)
theorem dJ6_charAt_16 : decode cJ6_charAt 16 = .ok (.aload_n 0, 1) := dk_42 (dk_at dksJ6_charAt_0 16 rfl rfl)
theorem dJ6_charAt_17 : decode cJ6_charAt 17 = .ok (.getfield 9, 3) := dk_180 0 9 (dk_at dksJ6_charAt_0 17 rfl rfl)
theorem dJ6_charAt_20 : decode cJ6_charAt 20 = .ok (.iload_n 1, 1) := dk_27 (dk_at dksJ6_charAt_0 20 rfl rfl)
theorem dJ6_charAt_21 : decode cJ6_charAt 21 = .ok (.invokestatic 498, 3) := dk_184 1 242 (dk_at dksJ6_charAt_0 21 rfl rfl)
theorem dJ6_charAt_24 : decode cJ6_charAt 24 = .ok (.ireturn, 1) := dk_172 (dk_at dksJ6_charAt_1 0 rfl rfl)
abbrev cJ6_isLatin1 : ByteArray := prog_40_method_154_code
def yJ6_isLatin1 : MethodName := ⟨RJ6, "isLatin1", "()Z"⟩
def dkwJ6_isLatin1_0 : List UInt8 := [178, 0, 38, 153, 0, 14, 42, 180, 0, 15, 154, 0, 7, 4, 167, 0, 4, 3, 172]
abbrev dktJ6_isLatin1_0 : List UInt8 := dkwJ6_isLatin1_0 ++ []
theorem dksJ6_isLatin1_0 : cJ6_isLatin1.data.toList.drop 0 = dktJ6_isLatin1_0 := by decide +kernel
theorem dJ6_isLatin1_0 : decode cJ6_isLatin1 0 = .ok (.getstatic 38, 3) := dk_178 0 38 (dk_at dksJ6_isLatin1_0 0 rfl rfl)
theorem dJ6_isLatin1_3 : decode cJ6_isLatin1 3 = .ok (.ifCond .eq 14, 3) := dk_153 0 14 (dk_at dksJ6_isLatin1_0 3 rfl rfl)
theorem dJ6_isLatin1_6 : decode cJ6_isLatin1 6 = .ok (.aload_n 0, 1) := dk_42 (dk_at dksJ6_isLatin1_0 6 rfl rfl)
theorem dJ6_isLatin1_7 : decode cJ6_isLatin1 7 = .ok (.getfield 15, 3) := dk_180 0 15 (dk_at dksJ6_isLatin1_0 7 rfl rfl)
theorem dJ6_isLatin1_10 : decode cJ6_isLatin1 10 = .ok (.ifCond .ne 7, 3) := dk_154 0 7 (dk_at dksJ6_isLatin1_0 10 rfl rfl)
theorem dJ6_isLatin1_13 : decode cJ6_isLatin1 13 = .ok (.iconst 1, 1) := dk_4 (dk_at dksJ6_isLatin1_0 13 rfl rfl)
theorem dJ6_isLatin1_14 : decode cJ6_isLatin1 14 = .ok (.goto 4, 3) := dk_167 0 4 (dk_at dksJ6_isLatin1_0 14 rfl rfl)
theorem dJ6_isLatin1_17 : decode cJ6_isLatin1 17 = .ok (.iconst 0, 1) := dk_3 (dk_at dksJ6_isLatin1_0 17 rfl rfl)
theorem dJ6_isLatin1_18 : decode cJ6_isLatin1 18 = .ok (.ireturn, 1) := dk_172 (dk_at dksJ6_isLatin1_0 18 rfl rfl)
abbrev cJ6_substring : ByteArray := prog_40_method_92_code
def yJ6_substring : MethodName := ⟨RJ6, "substring", "(II)Ljava/lang/String;"⟩
def dkwJ6_substring_2 : List UInt8 := [180, 0, 9, 27, 21, 4, 184, 2, 177, 176]
abbrev dktJ6_substring_2 : List UInt8 := dkwJ6_substring_2 ++ []
def dkwJ6_substring_1 : List UInt8 := [100, 54, 4, 42, 182, 1, 236, 153, 0, 16, 42, 180, 0, 9, 27, 21, 4, 184, 2, 173, 167, 0, 13, 42]
abbrev dktJ6_substring_1 : List UInt8 := dkwJ6_substring_1 ++ dktJ6_substring_2
def dkwJ6_substring_0 : List UInt8 := [42, 182, 1, 249, 62, 27, 28, 29, 184, 2, 9, 27, 154, 0, 10, 28, 29, 160, 0, 5, 42, 176, 28, 27]
abbrev dktJ6_substring_0 : List UInt8 := dkwJ6_substring_0 ++ dktJ6_substring_1
theorem dksJ6_substring_0 : cJ6_substring.data.toList.drop 0 = dktJ6_substring_0 := by decide +kernel
theorem dksJ6_substring_1 : cJ6_substring.data.toList.drop 24 = dktJ6_substring_1 := dk_seg dksJ6_substring_0 24 rfl rfl
theorem dksJ6_substring_2 : cJ6_substring.data.toList.drop 48 = dktJ6_substring_2 := dk_seg dksJ6_substring_1 24 rfl rfl
theorem dJ6_substring_0 : decode cJ6_substring 0 = .ok (.aload_n 0, 1) := dk_42 (dk_at dksJ6_substring_0 0 rfl rfl)
theorem dJ6_substring_1 : decode cJ6_substring 1 = .ok (.invokevirtual 505, 3) := dk_182 1 249 (dk_at dksJ6_substring_0 1 rfl rfl)
theorem dJ6_substring_4 : decode cJ6_substring 4 = .ok (.istore_n 3, 1) := dk_62 (dk_at dksJ6_substring_0 4 rfl rfl)
theorem dJ6_substring_5 : decode cJ6_substring 5 = .ok (.iload_n 1, 1) := dk_27 (dk_at dksJ6_substring_0 5 rfl rfl)
theorem dJ6_substring_6 : decode cJ6_substring 6 = .ok (.iload_n 2, 1) := dk_28 (dk_at dksJ6_substring_0 6 rfl rfl)
theorem dJ6_substring_7 : decode cJ6_substring 7 = .ok (.iload_n 3, 1) := dk_29 (dk_at dksJ6_substring_0 7 rfl rfl)
theorem dJ6_substring_8 : decode cJ6_substring 8 = .ok (.invokestatic 521, 3) := dk_184 2 9 (dk_at dksJ6_substring_0 8 rfl rfl)
theorem dJ6_substring_11 : decode cJ6_substring 11 = .ok (.iload_n 1, 1) := dk_27 (dk_at dksJ6_substring_0 11 rfl rfl)
theorem dJ6_substring_12 : decode cJ6_substring 12 = .ok (.ifCond .ne 10, 3) := dk_154 0 10 (dk_at dksJ6_substring_0 12 rfl rfl)
theorem dJ6_substring_15 : decode cJ6_substring 15 = .ok (.iload_n 2, 1) := dk_28 (dk_at dksJ6_substring_0 15 rfl rfl)
theorem dJ6_substring_16 : decode cJ6_substring 16 = .ok (.iload_n 3, 1) := dk_29 (dk_at dksJ6_substring_0 16 rfl rfl)
theorem dJ6_substring_17 : decode cJ6_substring 17 = .ok (.if_icmp .ne 5, 3) := dk_160 0 5 (dk_at dksJ6_substring_0 17 rfl rfl)
theorem dJ6_substring_20 : decode cJ6_substring 20 = .ok (.aload_n 0, 1) := dk_42 (dk_at dksJ6_substring_0 20 rfl rfl)
theorem dJ6_substring_21 : decode cJ6_substring 21 = .ok (.areturn, 1) := dk_176 (dk_at dksJ6_substring_0 21 rfl rfl)
theorem dJ6_substring_22 : decode cJ6_substring 22 = .ok (.iload_n 2, 1) := dk_28 (dk_at dksJ6_substring_0 22 rfl rfl)
theorem dJ6_substring_23 : decode cJ6_substring 23 = .ok (.iload_n 1, 1) := dk_27 (dk_at dksJ6_substring_0 23 rfl rfl)
theorem dJ6_substring_24 : decode cJ6_substring 24 = .ok (.isub, 1) := dk_100 (dk_at dksJ6_substring_1 0 rfl rfl)
theorem dJ6_substring_25 : decode cJ6_substring 25 = .ok (.istore 4, 2) := dk_54 4 (dk_at dksJ6_substring_1 1 rfl rfl)
theorem dJ6_substring_27 : decode cJ6_substring 27 = .ok (.aload_n 0, 1) := dk_42 (dk_at dksJ6_substring_1 3 rfl rfl)
theorem dJ6_substring_28 : decode cJ6_substring 28 = .ok (.invokevirtual 492, 3) := dk_182 1 236 (dk_at dksJ6_substring_1 4 rfl rfl)
theorem dJ6_substring_31 : decode cJ6_substring 31 = .ok (.ifCond .eq 16, 3) := dk_153 0 16 (dk_at dksJ6_substring_1 7 rfl rfl)
theorem dJ6_substring_34 : decode cJ6_substring 34 = .ok (.aload_n 0, 1) := dk_42 (dk_at dksJ6_substring_1 10 rfl rfl)
theorem dJ6_substring_35 : decode cJ6_substring 35 = .ok (.getfield 9, 3) := dk_180 0 9 (dk_at dksJ6_substring_1 11 rfl rfl)
theorem dJ6_substring_38 : decode cJ6_substring 38 = .ok (.iload_n 1, 1) := dk_27 (dk_at dksJ6_substring_1 14 rfl rfl)
theorem dJ6_substring_39 : decode cJ6_substring 39 = .ok (.iload 4, 2) := dk_21 4 (dk_at dksJ6_substring_1 15 rfl rfl)
theorem dJ6_substring_41 : decode cJ6_substring 41 = .ok (.invokestatic 685, 3) := dk_184 2 173 (dk_at dksJ6_substring_1 17 rfl rfl)
theorem dJ6_substring_44 : decode cJ6_substring 44 = .ok (.goto 13, 3) := dk_167 0 13 (dk_at dksJ6_substring_1 20 rfl rfl)
theorem dJ6_substring_47 : decode cJ6_substring 47 = .ok (.aload_n 0, 1) := dk_42 (dk_at dksJ6_substring_1 23 rfl rfl)
theorem dJ6_substring_48 : decode cJ6_substring 48 = .ok (.getfield 9, 3) := dk_180 0 9 (dk_at dksJ6_substring_2 0 rfl rfl)
theorem dJ6_substring_51 : decode cJ6_substring 51 = .ok (.iload_n 1, 1) := dk_27 (dk_at dksJ6_substring_2 3 rfl rfl)
theorem dJ6_substring_52 : decode cJ6_substring 52 = .ok (.iload 4, 2) := dk_21 4 (dk_at dksJ6_substring_2 4 rfl rfl)
theorem dJ6_substring_54 : decode cJ6_substring 54 = .ok (.invokestatic 689, 3) := dk_184 2 177 (dk_at dksJ6_substring_2 6 rfl rfl)
theorem dJ6_substring_57 : decode cJ6_substring 57 = .ok (.areturn, 1) := dk_176 (dk_at dksJ6_substring_2 9 rfl rfl)
abbrev cJ6_checkBoundsBeginEnd : ByteArray := prog_40_method_158_code
def yJ6_checkBoundsBeginEnd : MethodName := ⟨RJ6, "checkBoundsBeginEnd", "(III)V"⟩
def dkwJ6_checkBoundsBeginEnd_0 : List UInt8 := [26, 27, 28, 178, 4, 29, 184, 4, 38, 87, 177]
abbrev dktJ6_checkBoundsBeginEnd_0 : List UInt8 := dkwJ6_checkBoundsBeginEnd_0 ++ []
theorem dksJ6_checkBoundsBeginEnd_0 : cJ6_checkBoundsBeginEnd.data.toList.drop 0 = dktJ6_checkBoundsBeginEnd_0 := by decide +kernel
theorem dJ6_checkBoundsBeginEnd_0 : decode cJ6_checkBoundsBeginEnd 0 = .ok (.iload_n 0, 1) := dk_26 (dk_at dksJ6_checkBoundsBeginEnd_0 0 rfl rfl)
theorem dJ6_checkBoundsBeginEnd_1 : decode cJ6_checkBoundsBeginEnd 1 = .ok (.iload_n 1, 1) := dk_27 (dk_at dksJ6_checkBoundsBeginEnd_0 1 rfl rfl)
theorem dJ6_checkBoundsBeginEnd_2 : decode cJ6_checkBoundsBeginEnd 2 = .ok (.iload_n 2, 1) := dk_28 (dk_at dksJ6_checkBoundsBeginEnd_0 2 rfl rfl)
theorem dJ6_checkBoundsBeginEnd_3 : decode cJ6_checkBoundsBeginEnd 3 = .ok (.getstatic 1053, 3) := dk_178 4 29 (dk_at dksJ6_checkBoundsBeginEnd_0 3 rfl rfl)
theorem dJ6_checkBoundsBeginEnd_6 : decode cJ6_checkBoundsBeginEnd 6 = .ok (.invokestatic 1062, 3) := dk_184 4 38 (dk_at dksJ6_checkBoundsBeginEnd_0 6 rfl rfl)
theorem dJ6_checkBoundsBeginEnd_9 : decode cJ6_checkBoundsBeginEnd 9 = .ok (.pop, 1) := dk_87 (dk_at dksJ6_checkBoundsBeginEnd_0 9 rfl rfl)
theorem dJ6_checkBoundsBeginEnd_10 : decode cJ6_checkBoundsBeginEnd 10 = .ok (.return_, 1) := dk_177 (dk_at dksJ6_checkBoundsBeginEnd_0 10 rfl rfl)
abbrev cJ6_init_3 : ByteArray := prog_40_method_151_code
def yJ6_init_3 : MethodName := ⟨RJ6, "<init>", "([BB)V"⟩
def dkwJ6_init_3_0 : List UInt8 := [42, 183, 0, 1, 42, 43, 181, 0, 9, 42, 28, 181, 0, 15, 177]
abbrev dktJ6_init_3_0 : List UInt8 := dkwJ6_init_3_0 ++ []
theorem dksJ6_init_3_0 : cJ6_init_3.data.toList.drop 0 = dktJ6_init_3_0 := by decide +kernel
theorem dJ6_init_3_0 : decode cJ6_init_3 0 = .ok (.aload_n 0, 1) := dk_42 (dk_at dksJ6_init_3_0 0 rfl rfl)
theorem dJ6_init_3_1 : decode cJ6_init_3 1 = .ok (.invokespecial 1, 3) := dk_183 0 1 (dk_at dksJ6_init_3_0 1 rfl rfl)
theorem dJ6_init_3_4 : decode cJ6_init_3 4 = .ok (.aload_n 0, 1) := dk_42 (dk_at dksJ6_init_3_0 4 rfl rfl)
theorem dJ6_init_3_5 : decode cJ6_init_3 5 = .ok (.aload_n 1, 1) := dk_43 (dk_at dksJ6_init_3_0 5 rfl rfl)
theorem dJ6_init_3_6 : decode cJ6_init_3 6 = .ok (.putfield 9, 3) := dk_181 0 9 (dk_at dksJ6_init_3_0 6 rfl rfl)
theorem dJ6_init_3_9 : decode cJ6_init_3 9 = .ok (.aload_n 0, 1) := dk_42 (dk_at dksJ6_init_3_0 9 rfl rfl)
theorem dJ6_init_3_10 : decode cJ6_init_3 10 = .ok (.iload_n 2, 1) := dk_28 (dk_at dksJ6_init_3_0 10 rfl rfl)
theorem dJ6_init_3_11 : decode cJ6_init_3 11 = .ok (.putfield 15, 3) := dk_181 0 15 (dk_at dksJ6_init_3_0 11 rfl rfl)
theorem dJ6_init_3_14 : decode cJ6_init_3 14 = .ok (.return_, 1) := dk_177 (dk_at dksJ6_init_3_0 14 rfl rfl)
abbrev cJ6_startsWith : ByteArray := prog_40_method_76_code
def yJ6_startsWith : MethodName := ⟨RJ6, "startsWith", "(Ljava/lang/String;)Z"⟩
def dkwJ6_startsWith_0 : List UInt8 := [42, 43, 3, 182, 2, 112, 172]
abbrev dktJ6_startsWith_0 : List UInt8 := dkwJ6_startsWith_0 ++ []
theorem dksJ6_startsWith_0 : cJ6_startsWith.data.toList.drop 0 = dktJ6_startsWith_0 := by decide +kernel
theorem dJ6_startsWith_0 : decode cJ6_startsWith 0 = .ok (.aload_n 0, 1) := dk_42 (dk_at dksJ6_startsWith_0 0 rfl rfl)
theorem dJ6_startsWith_1 : decode cJ6_startsWith 1 = .ok (.aload_n 1, 1) := dk_43 (dk_at dksJ6_startsWith_0 1 rfl rfl)
theorem dJ6_startsWith_2 : decode cJ6_startsWith 2 = .ok (.iconst 0, 1) := dk_3 (dk_at dksJ6_startsWith_0 2 rfl rfl)
theorem dJ6_startsWith_3 : decode cJ6_startsWith 3 = .ok (.invokevirtual 624, 3) := dk_182 2 112 (dk_at dksJ6_startsWith_0 3 rfl rfl)
theorem dJ6_startsWith_6 : decode cJ6_startsWith 6 = .ok (.ireturn, 1) := dk_172 (dk_at dksJ6_startsWith_0 6 rfl rfl)
abbrev cJ6_startsWith_2 : ByteArray := prog_40_method_75_code
def yJ6_startsWith_2 : MethodName := ⟨RJ6, "startsWith", "(Ljava/lang/String;I)Z"⟩
def dkwJ6_startsWith_2_5 : List UInt8 := [159, 255, 229, 3, 172, 4, 172]
abbrev dktJ6_startsWith_2_5 : List UInt8 := dkwJ6_startsWith_2_5 ++ []
def dkwJ6_startsWith_2_4 : List UInt8 := [162, 0, 28, 45, 28, 132, 2, 1, 184, 1, 104, 25, 4, 21, 5, 132, 5, 1, 51, 17, 0, 255, 126]
abbrev dktJ6_startsWith_2_4 : List UInt8 := dkwJ6_startsWith_2_4 ++ dktJ6_startsWith_2_5
def dkwJ6_startsWith_2_3 : List UInt8 := [184, 2, 95, 156, 0, 7, 4, 167, 0, 4, 3, 172, 21, 7, 154, 0, 5, 3, 172, 21, 5, 21, 6]
abbrev dktJ6_startsWith_2_3 : List UInt8 := dkwJ6_startsWith_2_3 ++ dktJ6_startsWith_2_4
def dkwJ6_startsWith_2_2 : List UInt8 := [182, 1, 79, 160, 0, 32, 21, 7, 4, 160, 0, 7, 28, 4, 120, 61, 45, 28, 25, 4, 3, 21, 6]
abbrev dktJ6_startsWith_2_2 : List UInt8 := dkwJ6_startsWith_2_2 ++ dktJ6_startsWith_2_3
def dkwJ6_startsWith_2_1 : List UInt8 := [43, 180, 0, 9, 58, 4, 3, 54, 5, 25, 4, 190, 54, 6, 42, 182, 1, 79, 54, 7, 21, 7, 43]
abbrev dktJ6_startsWith_2_1 : List UInt8 := dkwJ6_startsWith_2_1 ++ dktJ6_startsWith_2_2
def dkwJ6_startsWith_2_0 : List UInt8 := [28, 155, 0, 16, 28, 42, 182, 1, 249, 43, 182, 1, 249, 100, 164, 0, 5, 3, 172, 42, 180, 0, 9, 78]
abbrev dktJ6_startsWith_2_0 : List UInt8 := dkwJ6_startsWith_2_0 ++ dktJ6_startsWith_2_1
theorem dksJ6_startsWith_2_0 : cJ6_startsWith_2.data.toList.drop 0 = dktJ6_startsWith_2_0 := by decide +kernel
theorem dksJ6_startsWith_2_1 : cJ6_startsWith_2.data.toList.drop 24 = dktJ6_startsWith_2_1 := dk_seg dksJ6_startsWith_2_0 24 rfl rfl
theorem dksJ6_startsWith_2_2 : cJ6_startsWith_2.data.toList.drop 47 = dktJ6_startsWith_2_2 := dk_seg dksJ6_startsWith_2_1 23 rfl rfl
theorem dksJ6_startsWith_2_3 : cJ6_startsWith_2.data.toList.drop 70 = dktJ6_startsWith_2_3 := dk_seg dksJ6_startsWith_2_2 23 rfl rfl
theorem dksJ6_startsWith_2_4 : cJ6_startsWith_2.data.toList.drop 93 = dktJ6_startsWith_2_4 := dk_seg dksJ6_startsWith_2_3 23 rfl rfl
theorem dksJ6_startsWith_2_5 : cJ6_startsWith_2.data.toList.drop 116 = dktJ6_startsWith_2_5 := dk_seg dksJ6_startsWith_2_4 23 rfl rfl
theorem dJ6_startsWith_2_0 : decode cJ6_startsWith_2 0 = .ok (.iload_n 2, 1) := dk_28 (dk_at dksJ6_startsWith_2_0 0 rfl rfl)
theorem dJ6_startsWith_2_1 : decode cJ6_startsWith_2 1 = .ok (.ifCond .lt 16, 3) := dk_155 0 16 (dk_at dksJ6_startsWith_2_0 1 rfl rfl)
theorem dJ6_startsWith_2_4 : decode cJ6_startsWith_2 4 = .ok (.iload_n 2, 1) := dk_28 (dk_at dksJ6_startsWith_2_0 4 rfl rfl)
theorem dJ6_startsWith_2_5 : decode cJ6_startsWith_2 5 = .ok (.aload_n 0, 1) := dk_42 (dk_at dksJ6_startsWith_2_0 5 rfl rfl)
theorem dJ6_startsWith_2_6 : decode cJ6_startsWith_2 6 = .ok (.invokevirtual 505, 3) := dk_182 1 249 (dk_at dksJ6_startsWith_2_0 6 rfl rfl)
theorem dJ6_startsWith_2_9 : decode cJ6_startsWith_2 9 = .ok (.aload_n 1, 1) := dk_43 (dk_at dksJ6_startsWith_2_0 9 rfl rfl)
theorem dJ6_startsWith_2_10 : decode cJ6_startsWith_2 10 = .ok (.invokevirtual 505, 3) := dk_182 1 249 (dk_at dksJ6_startsWith_2_0 10 rfl rfl)
theorem dJ6_startsWith_2_13 : decode cJ6_startsWith_2 13 = .ok (.isub, 1) := dk_100 (dk_at dksJ6_startsWith_2_0 13 rfl rfl)
theorem dJ6_startsWith_2_14 : decode cJ6_startsWith_2 14 = .ok (.if_icmp .le 5, 3) := dk_164 0 5 (dk_at dksJ6_startsWith_2_0 14 rfl rfl)
theorem dJ6_startsWith_2_17 : decode cJ6_startsWith_2 17 = .ok (.iconst 0, 1) := dk_3 (dk_at dksJ6_startsWith_2_0 17 rfl rfl)
theorem dJ6_startsWith_2_18 : decode cJ6_startsWith_2 18 = .ok (.ireturn, 1) := dk_172 (dk_at dksJ6_startsWith_2_0 18 rfl rfl)
theorem dJ6_startsWith_2_19 : decode cJ6_startsWith_2 19 = .ok (.aload_n 0, 1) := dk_42 (dk_at dksJ6_startsWith_2_0 19 rfl rfl)
theorem dJ6_startsWith_2_20 : decode cJ6_startsWith_2 20 = .ok (.getfield 9, 3) := dk_180 0 9 (dk_at dksJ6_startsWith_2_0 20 rfl rfl)
theorem dJ6_startsWith_2_23 : decode cJ6_startsWith_2 23 = .ok (.astore_n 3, 1) := dk_78 (dk_at dksJ6_startsWith_2_0 23 rfl rfl)
theorem dJ6_startsWith_2_24 : decode cJ6_startsWith_2 24 = .ok (.aload_n 1, 1) := dk_43 (dk_at dksJ6_startsWith_2_1 0 rfl rfl)
theorem dJ6_startsWith_2_25 : decode cJ6_startsWith_2 25 = .ok (.getfield 9, 3) := dk_180 0 9 (dk_at dksJ6_startsWith_2_1 1 rfl rfl)
theorem dJ6_startsWith_2_28 : decode cJ6_startsWith_2 28 = .ok (.astore 4, 2) := dk_58 4 (dk_at dksJ6_startsWith_2_1 4 rfl rfl)
theorem dJ6_startsWith_2_30 : decode cJ6_startsWith_2 30 = .ok (.iconst 0, 1) := dk_3 (dk_at dksJ6_startsWith_2_1 6 rfl rfl)
theorem dJ6_startsWith_2_31 : decode cJ6_startsWith_2 31 = .ok (.istore 5, 2) := dk_54 5 (dk_at dksJ6_startsWith_2_1 7 rfl rfl)
theorem dJ6_startsWith_2_33 : decode cJ6_startsWith_2 33 = .ok (.aload 4, 2) := dk_25 4 (dk_at dksJ6_startsWith_2_1 9 rfl rfl)
theorem dJ6_startsWith_2_35 : decode cJ6_startsWith_2 35 = .ok (.arraylength, 1) := dk_190 (dk_at dksJ6_startsWith_2_1 11 rfl rfl)
theorem dJ6_startsWith_2_36 : decode cJ6_startsWith_2 36 = .ok (.istore 6, 2) := dk_54 6 (dk_at dksJ6_startsWith_2_1 12 rfl rfl)
theorem dJ6_startsWith_2_38 : decode cJ6_startsWith_2 38 = .ok (.aload_n 0, 1) := dk_42 (dk_at dksJ6_startsWith_2_1 14 rfl rfl)
theorem dJ6_startsWith_2_39 : decode cJ6_startsWith_2 39 = .ok (.invokevirtual 335, 3) := dk_182 1 79 (dk_at dksJ6_startsWith_2_1 15 rfl rfl)
theorem dJ6_startsWith_2_42 : decode cJ6_startsWith_2 42 = .ok (.istore 7, 2) := dk_54 7 (dk_at dksJ6_startsWith_2_1 18 rfl rfl)
theorem dJ6_startsWith_2_44 : decode cJ6_startsWith_2 44 = .ok (.iload 7, 2) := dk_21 7 (dk_at dksJ6_startsWith_2_1 20 rfl rfl)
theorem dJ6_startsWith_2_46 : decode cJ6_startsWith_2 46 = .ok (.aload_n 1, 1) := dk_43 (dk_at dksJ6_startsWith_2_1 22 rfl rfl)
theorem dJ6_startsWith_2_47 : decode cJ6_startsWith_2 47 = .ok (.invokevirtual 335, 3) := dk_182 1 79 (dk_at dksJ6_startsWith_2_2 0 rfl rfl)
theorem dJ6_startsWith_2_50 : decode cJ6_startsWith_2 50 = .ok (.if_icmp .ne 32, 3) := dk_160 0 32 (dk_at dksJ6_startsWith_2_2 3 rfl rfl)
theorem dJ6_startsWith_2_53 : decode cJ6_startsWith_2 53 = .ok (.iload 7, 2) := dk_21 7 (dk_at dksJ6_startsWith_2_2 6 rfl rfl)
theorem dJ6_startsWith_2_55 : decode cJ6_startsWith_2 55 = .ok (.iconst 1, 1) := dk_4 (dk_at dksJ6_startsWith_2_2 8 rfl rfl)
theorem dJ6_startsWith_2_56 : decode cJ6_startsWith_2 56 = .ok (.if_icmp .ne 7, 3) := dk_160 0 7 (dk_at dksJ6_startsWith_2_2 9 rfl rfl)
theorem dJ6_startsWith_2_59 : decode cJ6_startsWith_2 59 = .ok (.iload_n 2, 1) := dk_28 (dk_at dksJ6_startsWith_2_2 12 rfl rfl)
theorem dJ6_startsWith_2_60 : decode cJ6_startsWith_2 60 = .ok (.iconst 1, 1) := dk_4 (dk_at dksJ6_startsWith_2_2 13 rfl rfl)
theorem dJ6_startsWith_2_61 : decode cJ6_startsWith_2 61 = .ok (.ishl, 1) := dk_120 (dk_at dksJ6_startsWith_2_2 14 rfl rfl)
theorem dJ6_startsWith_2_62 : decode cJ6_startsWith_2 62 = .ok (.istore_n 2, 1) := dk_61 (dk_at dksJ6_startsWith_2_2 15 rfl rfl)
theorem dJ6_startsWith_2_63 : decode cJ6_startsWith_2 63 = .ok (.aload_n 3, 1) := dk_45 (dk_at dksJ6_startsWith_2_2 16 rfl rfl)
theorem dJ6_startsWith_2_64 : decode cJ6_startsWith_2 64 = .ok (.iload_n 2, 1) := dk_28 (dk_at dksJ6_startsWith_2_2 17 rfl rfl)
theorem dJ6_startsWith_2_65 : decode cJ6_startsWith_2 65 = .ok (.aload 4, 2) := dk_25 4 (dk_at dksJ6_startsWith_2_2 18 rfl rfl)
theorem dJ6_startsWith_2_67 : decode cJ6_startsWith_2 67 = .ok (.iconst 0, 1) := dk_3 (dk_at dksJ6_startsWith_2_2 20 rfl rfl)
theorem dJ6_startsWith_2_68 : decode cJ6_startsWith_2 68 = .ok (.iload 6, 2) := dk_21 6 (dk_at dksJ6_startsWith_2_2 21 rfl rfl)
theorem dJ6_startsWith_2_70 : decode cJ6_startsWith_2 70 = .ok (.invokestatic 607, 3) := dk_184 2 95 (dk_at dksJ6_startsWith_2_3 0 rfl rfl)
theorem dJ6_startsWith_2_73 : decode cJ6_startsWith_2 73 = .ok (.ifCond .ge 7, 3) := dk_156 0 7 (dk_at dksJ6_startsWith_2_3 3 rfl rfl)
theorem dJ6_startsWith_2_76 : decode cJ6_startsWith_2 76 = .ok (.iconst 1, 1) := dk_4 (dk_at dksJ6_startsWith_2_3 6 rfl rfl)
theorem dJ6_startsWith_2_77 : decode cJ6_startsWith_2 77 = .ok (.goto 4, 3) := dk_167 0 4 (dk_at dksJ6_startsWith_2_3 7 rfl rfl)
theorem dJ6_startsWith_2_80 : decode cJ6_startsWith_2 80 = .ok (.iconst 0, 1) := dk_3 (dk_at dksJ6_startsWith_2_3 10 rfl rfl)
theorem dJ6_startsWith_2_81 : decode cJ6_startsWith_2 81 = .ok (.ireturn, 1) := dk_172 (dk_at dksJ6_startsWith_2_3 11 rfl rfl)
theorem dJ6_startsWith_2_82 : decode cJ6_startsWith_2 82 = .ok (.iload 7, 2) := dk_21 7 (dk_at dksJ6_startsWith_2_3 12 rfl rfl)
theorem dJ6_startsWith_2_84 : decode cJ6_startsWith_2 84 = .ok (.ifCond .ne 5, 3) := dk_154 0 5 (dk_at dksJ6_startsWith_2_3 14 rfl rfl)
theorem dJ6_startsWith_2_87 : decode cJ6_startsWith_2 87 = .ok (.iconst 0, 1) := dk_3 (dk_at dksJ6_startsWith_2_3 17 rfl rfl)
theorem dJ6_startsWith_2_88 : decode cJ6_startsWith_2 88 = .ok (.ireturn, 1) := dk_172 (dk_at dksJ6_startsWith_2_3 18 rfl rfl)
theorem dJ6_startsWith_2_89 : decode cJ6_startsWith_2 89 = .ok (.iload 5, 2) := dk_21 5 (dk_at dksJ6_startsWith_2_3 19 rfl rfl)
theorem dJ6_startsWith_2_91 : decode cJ6_startsWith_2 91 = .ok (.iload 6, 2) := dk_21 6 (dk_at dksJ6_startsWith_2_3 21 rfl rfl)
theorem dJ6_startsWith_2_93 : decode cJ6_startsWith_2 93 = .ok (.if_icmp .ge 28, 3) := dk_162 0 28 (dk_at dksJ6_startsWith_2_4 0 rfl rfl)
theorem dJ6_startsWith_2_96 : decode cJ6_startsWith_2 96 = .ok (.aload_n 3, 1) := dk_45 (dk_at dksJ6_startsWith_2_4 3 rfl rfl)
theorem dJ6_startsWith_2_97 : decode cJ6_startsWith_2 97 = .ok (.iload_n 2, 1) := dk_28 (dk_at dksJ6_startsWith_2_4 4 rfl rfl)
theorem dJ6_startsWith_2_98 : decode cJ6_startsWith_2 98 = .ok (.iinc 2 1, 3) := dk_132 2 1 (dk_at dksJ6_startsWith_2_4 5 rfl rfl)
theorem dJ6_startsWith_2_101 : decode cJ6_startsWith_2 101 = .ok (.invokestatic 360, 3) := dk_184 1 104 (dk_at dksJ6_startsWith_2_4 8 rfl rfl)
theorem dJ6_startsWith_2_104 : decode cJ6_startsWith_2 104 = .ok (.aload 4, 2) := dk_25 4 (dk_at dksJ6_startsWith_2_4 11 rfl rfl)
theorem dJ6_startsWith_2_106 : decode cJ6_startsWith_2 106 = .ok (.iload 5, 2) := dk_21 5 (dk_at dksJ6_startsWith_2_4 13 rfl rfl)
theorem dJ6_startsWith_2_108 : decode cJ6_startsWith_2 108 = .ok (.iinc 5 1, 3) := dk_132 5 1 (dk_at dksJ6_startsWith_2_4 15 rfl rfl)
theorem dJ6_startsWith_2_111 : decode cJ6_startsWith_2 111 = .ok (.baload, 1) := dk_51 (dk_at dksJ6_startsWith_2_4 18 rfl rfl)
theorem dJ6_startsWith_2_112 : decode cJ6_startsWith_2 112 = .ok (.sipush 255, 3) := dk_17 0 255 (dk_at dksJ6_startsWith_2_4 19 rfl rfl)
theorem dJ6_startsWith_2_115 : decode cJ6_startsWith_2 115 = .ok (.iand, 1) := dk_126 (dk_at dksJ6_startsWith_2_4 22 rfl rfl)
theorem dJ6_startsWith_2_116 : decode cJ6_startsWith_2 116 = .ok (.if_icmp .eq (-27), 3) := dk_159 255 229 (dk_at dksJ6_startsWith_2_5 0 rfl rfl)
theorem dJ6_startsWith_2_119 : decode cJ6_startsWith_2 119 = .ok (.iconst 0, 1) := dk_3 (dk_at dksJ6_startsWith_2_5 3 rfl rfl)
theorem dJ6_startsWith_2_120 : decode cJ6_startsWith_2 120 = .ok (.ireturn, 1) := dk_172 (dk_at dksJ6_startsWith_2_5 4 rfl rfl)
theorem dJ6_startsWith_2_121 : decode cJ6_startsWith_2 121 = .ok (.iconst 1, 1) := dk_4 (dk_at dksJ6_startsWith_2_5 5 rfl rfl)
theorem dJ6_startsWith_2_122 : decode cJ6_startsWith_2 122 = .ok (.ireturn, 1) := dk_172 (dk_at dksJ6_startsWith_2_5 6 rfl rfl)
abbrev cJ6_getBytes : ByteArray := prog_40_method_147_code
def yJ6_getBytes : MethodName := ⟨RJ6, "getBytes", "([BIB)V"⟩
def dkwJ6_getBytes_1 : List UInt8 := [184, 0, 212, 167, 0, 18, 42, 180, 0, 9, 3, 43, 28, 42, 180, 0, 9, 190, 184, 0, 106, 177]
abbrev dktJ6_getBytes_1 : List UInt8 := dkwJ6_getBytes_1 ++ []
def dkwJ6_getBytes_0 : List UInt8 := [42, 182, 1, 79, 29, 160, 0, 23, 42, 180, 0, 9, 3, 43, 28, 29, 120, 42, 180, 0, 9, 190]
abbrev dktJ6_getBytes_0 : List UInt8 := dkwJ6_getBytes_0 ++ dktJ6_getBytes_1
theorem dksJ6_getBytes_0 : cJ6_getBytes.data.toList.drop 0 = dktJ6_getBytes_0 := by decide +kernel
theorem dksJ6_getBytes_1 : cJ6_getBytes.data.toList.drop 22 = dktJ6_getBytes_1 := dk_seg dksJ6_getBytes_0 22 rfl rfl
theorem dJ6_getBytes_0 : decode cJ6_getBytes 0 = .ok (.aload_n 0, 1) := dk_42 (dk_at dksJ6_getBytes_0 0 rfl rfl)
theorem dJ6_getBytes_1 : decode cJ6_getBytes 1 = .ok (.invokevirtual 335, 3) := dk_182 1 79 (dk_at dksJ6_getBytes_0 1 rfl rfl)
theorem dJ6_getBytes_4 : decode cJ6_getBytes 4 = .ok (.iload_n 3, 1) := dk_29 (dk_at dksJ6_getBytes_0 4 rfl rfl)
theorem dJ6_getBytes_5 : decode cJ6_getBytes 5 = .ok (.if_icmp .ne 23, 3) := dk_160 0 23 (dk_at dksJ6_getBytes_0 5 rfl rfl)
theorem dJ6_getBytes_8 : decode cJ6_getBytes 8 = .ok (.aload_n 0, 1) := dk_42 (dk_at dksJ6_getBytes_0 8 rfl rfl)
theorem dJ6_getBytes_9 : decode cJ6_getBytes 9 = .ok (.getfield 9, 3) := dk_180 0 9 (dk_at dksJ6_getBytes_0 9 rfl rfl)
theorem dJ6_getBytes_12 : decode cJ6_getBytes 12 = .ok (.iconst 0, 1) := dk_3 (dk_at dksJ6_getBytes_0 12 rfl rfl)
theorem dJ6_getBytes_13 : decode cJ6_getBytes 13 = .ok (.aload_n 1, 1) := dk_43 (dk_at dksJ6_getBytes_0 13 rfl rfl)
theorem dJ6_getBytes_14 : decode cJ6_getBytes 14 = .ok (.iload_n 2, 1) := dk_28 (dk_at dksJ6_getBytes_0 14 rfl rfl)
theorem dJ6_getBytes_15 : decode cJ6_getBytes 15 = .ok (.iload_n 3, 1) := dk_29 (dk_at dksJ6_getBytes_0 15 rfl rfl)
theorem dJ6_getBytes_16 : decode cJ6_getBytes 16 = .ok (.ishl, 1) := dk_120 (dk_at dksJ6_getBytes_0 16 rfl rfl)
theorem dJ6_getBytes_17 : decode cJ6_getBytes 17 = .ok (.aload_n 0, 1) := dk_42 (dk_at dksJ6_getBytes_0 17 rfl rfl)
theorem dJ6_getBytes_18 : decode cJ6_getBytes 18 = .ok (.getfield 9, 3) := dk_180 0 9 (dk_at dksJ6_getBytes_0 18 rfl rfl)
theorem dJ6_getBytes_21 : decode cJ6_getBytes 21 = .ok (.arraylength, 1) := dk_190 (dk_at dksJ6_getBytes_0 21 rfl rfl)
theorem dJ6_getBytes_22 : decode cJ6_getBytes 22 = .ok (.invokestatic 212, 3) := dk_184 0 212 (dk_at dksJ6_getBytes_1 0 rfl rfl)
theorem dJ6_getBytes_25 : decode cJ6_getBytes 25 = .ok (.goto 18, 3) := dk_167 0 18 (dk_at dksJ6_getBytes_1 3 rfl rfl)
theorem dJ6_getBytes_28 : decode cJ6_getBytes 28 = .ok (.aload_n 0, 1) := dk_42 (dk_at dksJ6_getBytes_1 6 rfl rfl)
theorem dJ6_getBytes_29 : decode cJ6_getBytes 29 = .ok (.getfield 9, 3) := dk_180 0 9 (dk_at dksJ6_getBytes_1 7 rfl rfl)
theorem dJ6_getBytes_32 : decode cJ6_getBytes 32 = .ok (.iconst 0, 1) := dk_3 (dk_at dksJ6_getBytes_1 10 rfl rfl)
theorem dJ6_getBytes_33 : decode cJ6_getBytes 33 = .ok (.aload_n 1, 1) := dk_43 (dk_at dksJ6_getBytes_1 11 rfl rfl)
theorem dJ6_getBytes_34 : decode cJ6_getBytes 34 = .ok (.iload_n 2, 1) := dk_28 (dk_at dksJ6_getBytes_1 12 rfl rfl)
theorem dJ6_getBytes_35 : decode cJ6_getBytes 35 = .ok (.aload_n 0, 1) := dk_42 (dk_at dksJ6_getBytes_1 13 rfl rfl)
theorem dJ6_getBytes_36 : decode cJ6_getBytes 36 = .ok (.getfield 9, 3) := dk_180 0 9 (dk_at dksJ6_getBytes_1 14 rfl rfl)
theorem dJ6_getBytes_39 : decode cJ6_getBytes 39 = .ok (.arraylength, 1) := dk_190 (dk_at dksJ6_getBytes_1 17 rfl rfl)
theorem dJ6_getBytes_40 : decode cJ6_getBytes 40 = .ok (.invokestatic 106, 3) := dk_184 0 106 (dk_at dksJ6_getBytes_1 18 rfl rfl)
theorem dJ6_getBytes_43 : decode cJ6_getBytes 43 = .ok (.return_, 1) := dk_177 (dk_at dksJ6_getBytes_1 21 rfl rfl)
theorem q138 : (Jvm.Cond.initialized "java/lang/String") ∈ lw_all := lw_g (lw_at lw_m1 13 rfl) rfl
theorem q324 : (Jvm.Cond.laysStatic "java/lang/String" "COMPACT_STRINGS" "Z") ∈ lw_tbl := lw_at lw_m1 199 rfl
theorem q334 : (Jvm.Cond.fieldLink "java/lang/String" (1048 : Nat) "java/lang/AbstractStringBuilder" "maybeLatin1" "Z") ∈ lw_all := lw_g (lw_at lw_m1 209 rfl) rfl
theorem q419 : (Jvm.Cond.static ({ cls := "java/lang/String", name := "checkBoundsOffCount", desc := "(III)I" } : Jvm.MethodName)) ∈ lw_all := lw_g (lw_at lw_m2 54 rfl) rfl
theorem q420 : (Jvm.Cond.code ({ cls := "java/lang/String", name := "checkBoundsOffCount", desc := "(III)I" } : Jvm.MethodName) prog_40_method_157_code (3 : Nat) (Option.some Jvm.ClassFile.FieldType.int)) ∈ lw_all := lw_g (lw_at lw_m2 55 rfl) rfl
theorem q421 : (Jvm.Cond.fieldLink "java/lang/String" (1053 : Nat) "jdk/internal/util/Preconditions" "SIOOBE_FORMATTER" "Ljava/util/function/BiFunction;") ∈ lw_all := lw_g (lw_at lw_m2 56 rfl) rfl
theorem q423 : (Jvm.Cond.methodLink "java/lang/String" (1065 : Nat) ({ cls := "jdk/internal/util/Preconditions", name := "checkFromIndexSize", desc := "(IIILjava/util/function/BiFunction;)I" } : Jvm.MethodName)) ∈ lw_all := lw_g (lw_at lw_m2 58 rfl) rfl
theorem q442 : (Jvm.Cond.static ({ cls := "java/lang/String", name := "checkIndex", desc := "(II)V" } : Jvm.MethodName)) ∈ lw_all := lw_g (lw_at lw_m2 77 rfl) rfl
theorem q443 : (Jvm.Cond.code ({ cls := "java/lang/String", name := "checkIndex", desc := "(II)V" } : Jvm.MethodName) prog_40_method_155_code (2 : Nat) (Option.none : Option Jvm.ClassFile.FieldType)) ∈ lw_all := lw_g (lw_at lw_m2 78 rfl) rfl
theorem q444 : (Jvm.Cond.methodLink "java/lang/String" (1059 : Nat) ({ cls := "jdk/internal/util/Preconditions", name := "checkIndex", desc := "(IILjava/util/function/BiFunction;)I" } : Jvm.MethodName)) ∈ lw_all := lw_g (lw_at lw_m2 79 rfl) rfl
theorem q452 : (Jvm.Cond.instantiable "java/lang/String" (4 : Nat)) ∈ lw_all := lw_g (lw_at lw_m2 87 rfl) rfl
theorem q454 : (Jvm.Cond.instanceMethod ({ cls := "java/lang/String", name := "<init>", desc := "(Ljava/lang/StringBuilder;)V" } : Jvm.MethodName)) ∈ lw_all := lw_g (lw_at lw_m2 89 rfl) rfl
theorem q455 : (Jvm.Cond.code ({ cls := "java/lang/String", name := "<init>", desc := "(Ljava/lang/StringBuilder;)V" } : Jvm.MethodName) prog_40_method_53_code (2 : Nat) (Option.none : Option Jvm.ClassFile.FieldType)) ∈ lw_all := lw_g (lw_at lw_m2 90 rfl) rfl
theorem q456 : (Jvm.Cond.methodLink "java/lang/String" (489 : Nat) ({ cls := "java/lang/String", name := "<init>", desc := "(Ljava/lang/AbstractStringBuilder;Ljava/lang/Void;)V" } : Jvm.MethodName)) ∈ lw_all := lw_g (lw_at lw_m2 91 rfl) rfl
theorem q457 : (Jvm.Cond.instanceMethod ({ cls := "java/lang/String", name := "<init>", desc := "(Ljava/lang/AbstractStringBuilder;Ljava/lang/Void;)V" } : Jvm.MethodName)) ∈ lw_all := lw_g (lw_at lw_m2 92 rfl) rfl
theorem q458 : (Jvm.Cond.code ({ cls := "java/lang/String", name := "<init>", desc := "(Ljava/lang/AbstractStringBuilder;Ljava/lang/Void;)V" } : Jvm.MethodName) prog_40_method_150_code (5 : Nat) (Option.none : Option Jvm.ClassFile.FieldType)) ∈ lw_all := lw_g (lw_at lw_m2 93 rfl) rfl
theorem q459 : (Jvm.Cond.methodLink "java/lang/String" (1 : Nat) ({ cls := "java/lang/Object", name := "<init>", desc := "()V" } : Jvm.MethodName)) ∈ lw_all := lw_g (lw_at lw_m2 94 rfl) rfl
theorem q460 : (Jvm.Cond.methodLink "java/lang/String" (552 : Nat) ({ cls := "java/lang/AbstractStringBuilder", name := "getValue", desc := "()[B" } : Jvm.MethodName)) ∈ lw_all := lw_g (lw_at lw_m2 95 rfl) rfl
theorem q465 : (Jvm.Cond.methodLink "java/lang/String" (549 : Nat) ({ cls := "java/lang/AbstractStringBuilder", name := "length", desc := "()I" } : Jvm.MethodName)) ∈ lw_all := lw_g (lw_at lw_m2 100 rfl) rfl
theorem q466 : (Jvm.Cond.methodLink "java/lang/String" (1047 : Nat) ({ cls := "java/lang/AbstractStringBuilder", name := "isLatin1", desc := "()Z" } : Jvm.MethodName)) ∈ lw_all := lw_g (lw_at lw_m2 101 rfl) rfl
theorem q467 : (Jvm.Cond.methodLink "java/lang/String" (54 : Nat) ({ cls := "java/util/Arrays", name := "copyOfRange", desc := "([BII)[B" } : Jvm.MethodName)) ∈ lw_all := lw_g (lw_at lw_m2 102 rfl) rfl
theorem q476 : (Jvm.Cond.fieldLink "java/lang/String" (38 : Nat) "java/lang/String" "COMPACT_STRINGS" "Z") ∈ lw_all := lw_g (lw_at lw_m2 111 rfl) rfl
theorem q477 : (Jvm.Cond.methodLink "java/lang/String" (1051 : Nat) ({ cls := "java/lang/StringUTF16", name := "compress", desc := "([BII)[B" } : Jvm.MethodName)) ∈ lw_all := lw_g (lw_at lw_m2 112 rfl) rfl
theorem q487 : (Jvm.Cond.methodLink "java/lang/String" (47 : Nat) ({ cls := "java/lang/StringUTF16", name := "coderFromArrayLen", desc := "([BI)B" } : Jvm.MethodName)) ∈ lw_all := lw_g (lw_at lw_m2 122 rfl) rfl
theorem q490 : (Jvm.Cond.fieldLink "java/lang/String" (9 : Nat) "java/lang/String" "value" "[B") ∈ lw_all := lw_g (lw_at lw_m2 125 rfl) rfl
theorem q491 : (Jvm.Cond.fieldLink "java/lang/String" (15 : Nat) "java/lang/String" "coder" "B") ∈ lw_all := lw_g (lw_at lw_m2 126 rfl) rfl
theorem q492 : (Jvm.Cond.laysFinal "java/lang/String" "java/lang/String" "value" "[B") ∈ lw_all := lw_g (lw_at lw_m2 127 rfl) rfl
theorem q493 : (Jvm.Cond.soleField "java/lang/String" "value") ∈ lw_all := lw_g (lw_at lw_m2 128 rfl) rfl
theorem q494 : (Jvm.Cond.laysFinal "java/lang/String" "java/lang/String" "coder" "B") ∈ lw_all := lw_g (lw_at lw_m2 129 rfl) rfl
theorem q495 : (Jvm.Cond.soleField "java/lang/String" "coder") ∈ lw_all := lw_g (lw_at lw_m2 130 rfl) rfl
theorem q496 : (Jvm.Cond.lays "java/lang/String" "java/lang/String" "hash" "I") ∈ lw_all := lw_g (lw_at lw_m2 131 rfl) rfl
theorem q497 : (Jvm.Cond.soleField "java/lang/String" "hash") ∈ lw_all := lw_g (lw_at lw_m2 132 rfl) rfl
theorem q498 : (Jvm.Cond.lays "java/lang/String" "java/lang/String" "hashIsZero" "Z") ∈ lw_all := lw_g (lw_at lw_m2 133 rfl) rfl
theorem q499 : (Jvm.Cond.soleField "java/lang/String" "hashIsZero") ∈ lw_all := lw_g (lw_at lw_m2 134 rfl) rfl
theorem q500 : (Jvm.Cond.superclass "java/lang/String" "java/lang/Object") ∈ lw_all := lw_g (lw_at lw_m2 135 rfl) rfl
theorem q634 : (Jvm.Cond.instanceMethod ({ cls := "java/lang/String", name := "equals", desc := "(Ljava/lang/Object;)Z" } : Jvm.MethodName)) ∈ lw_all := lw_g (lw_at lw_m3 29 rfl) rfl
theorem q635 : (Jvm.Cond.selects "java/lang/String" ({ cls := "java/lang/String", name := "equals", desc := "(Ljava/lang/Object;)Z" } : Jvm.MethodName) ({ cls := "java/lang/String", name := "equals", desc := "(Ljava/lang/Object;)Z" } : Jvm.MethodName)) ∈ lw_all := lw_g (lw_at lw_m3 30 rfl) rfl
theorem q636 : (Jvm.Cond.code ({ cls := "java/lang/String", name := "equals", desc := "(Ljava/lang/Object;)Z" } : Jvm.MethodName) prog_40_method_66_code (3 : Nat) (Option.some Jvm.ClassFile.FieldType.boolean)) ∈ lw_all := lw_g (lw_at lw_m3 31 rfl) rfl
theorem q637 : (Jvm.Cond.classLink "java/lang/String" (10 : Nat) "java/lang/String") ∈ lw_all := lw_g (lw_at lw_m3 32 rfl) rfl
theorem q638 : (Jvm.Cond.methodLink "java/lang/String" (541 : Nat) ({ cls := "java/lang/StringLatin1", name := "equals", desc := "([B[B)Z" } : Jvm.MethodName)) ∈ lw_all := lw_g (lw_at lw_m3 33 rfl) rfl
theorem q780 : (Jvm.Cond.selects "java/lang/String" ({ cls := "java/lang/Object", name := "getClass", desc := "()Ljava/lang/Class;" } : Jvm.MethodName) ({ cls := "java/lang/Object", name := "getClass", desc := "()Ljava/lang/Class;" } : Jvm.MethodName)) ∈ lw_all := lw_g (lw_at lw_m3 175 rfl) rfl
theorem q842 : (Jvm.Cond.instanceMethod ({ cls := "java/lang/String", name := "length", desc := "()I" } : Jvm.MethodName)) ∈ lw_all := lw_g (lw_at lw_m3 237 rfl) rfl
theorem q843 : (Jvm.Cond.selects "java/lang/String" ({ cls := "java/lang/String", name := "length", desc := "()I" } : Jvm.MethodName) ({ cls := "java/lang/String", name := "length", desc := "()I" } : Jvm.MethodName)) ∈ lw_all := lw_g (lw_at lw_m3 238 rfl) rfl
theorem q844 : (Jvm.Cond.code ({ cls := "java/lang/String", name := "length", desc := "()I" } : Jvm.MethodName) prog_40_method_54_code (1 : Nat) (Option.some Jvm.ClassFile.FieldType.int)) ∈ lw_all := lw_g (lw_at lw_m3 239 rfl) rfl
theorem q845 : (Jvm.Cond.methodLink "java/lang/String" (335 : Nat) ({ cls := "java/lang/String", name := "coder", desc := "()B" } : Jvm.MethodName)) ∈ lw_all := lw_g (lw_at lw_m4 0 rfl) rfl
theorem q846 : (Jvm.Cond.instanceMethod ({ cls := "java/lang/String", name := "coder", desc := "()B" } : Jvm.MethodName)) ∈ lw_all := lw_g (lw_at lw_m4 1 rfl) rfl
theorem q847 : (Jvm.Cond.selects "java/lang/String" ({ cls := "java/lang/String", name := "coder", desc := "()B" } : Jvm.MethodName) ({ cls := "java/lang/String", name := "coder", desc := "()B" } : Jvm.MethodName)) ∈ lw_all := lw_g (lw_at lw_m4 2 rfl) rfl
theorem q848 : (Jvm.Cond.code ({ cls := "java/lang/String", name := "coder", desc := "()B" } : Jvm.MethodName) prog_40_method_152_code (1 : Nat) (Option.some Jvm.ClassFile.FieldType.byte)) ∈ lw_all := lw_g (lw_at lw_m4 3 rfl) rfl
theorem q1056 : (Jvm.Cond.instanceMethod ({ cls := "java/lang/String", name := "charAt", desc := "(I)C" } : Jvm.MethodName)) ∈ lw_all := lw_g (lw_at lw_m4 211 rfl) rfl
theorem q1057 : (Jvm.Cond.selects "java/lang/String" ({ cls := "java/lang/String", name := "charAt", desc := "(I)C" } : Jvm.MethodName) ({ cls := "java/lang/String", name := "charAt", desc := "(I)C" } : Jvm.MethodName)) ∈ lw_all := lw_g (lw_at lw_m4 212 rfl) rfl
theorem q1058 : (Jvm.Cond.code ({ cls := "java/lang/String", name := "charAt", desc := "(I)C" } : Jvm.MethodName) prog_40_method_56_code (2 : Nat) (Option.some Jvm.ClassFile.FieldType.char)) ∈ lw_all := lw_g (lw_at lw_m4 213 rfl) rfl
theorem q1059 : (Jvm.Cond.methodLink "java/lang/String" (492 : Nat) ({ cls := "java/lang/String", name := "isLatin1", desc := "()Z" } : Jvm.MethodName)) ∈ lw_all := lw_g (lw_at lw_m4 214 rfl) rfl
theorem q1060 : (Jvm.Cond.instanceMethod ({ cls := "java/lang/String", name := "isLatin1", desc := "()Z" } : Jvm.MethodName)) ∈ lw_all := lw_g (lw_at lw_m4 215 rfl) rfl
theorem q1061 : (Jvm.Cond.selects "java/lang/String" ({ cls := "java/lang/String", name := "isLatin1", desc := "()Z" } : Jvm.MethodName) ({ cls := "java/lang/String", name := "isLatin1", desc := "()Z" } : Jvm.MethodName)) ∈ lw_all := lw_g (lw_at lw_m4 216 rfl) rfl
theorem q1062 : (Jvm.Cond.code ({ cls := "java/lang/String", name := "isLatin1", desc := "()Z" } : Jvm.MethodName) prog_40_method_154_code (1 : Nat) (Option.some Jvm.ClassFile.FieldType.boolean)) ∈ lw_all := lw_g (lw_at lw_m4 217 rfl) rfl
theorem q1063 : (Jvm.Cond.methodLink "java/lang/String" (495 : Nat) ({ cls := "java/lang/StringLatin1", name := "charAt", desc := "([BI)C" } : Jvm.MethodName)) ∈ lw_all := lw_g (lw_at lw_m4 218 rfl) rfl
theorem q1067 : (Jvm.Cond.methodLink "java/lang/String" (498 : Nat) ({ cls := "java/lang/StringUTF16", name := "charAt", desc := "([BI)C" } : Jvm.MethodName)) ∈ lw_all := lw_g (lw_at lw_m4 222 rfl) rfl
theorem q1097 : (Jvm.Cond.instanceMethod ({ cls := "java/lang/String", name := "substring", desc := "(II)Ljava/lang/String;" } : Jvm.MethodName)) ∈ lw_all := lw_g (lw_at lw_m5 12 rfl) rfl
theorem q1098 : (Jvm.Cond.selects "java/lang/String" ({ cls := "java/lang/String", name := "substring", desc := "(II)Ljava/lang/String;" } : Jvm.MethodName) ({ cls := "java/lang/String", name := "substring", desc := "(II)Ljava/lang/String;" } : Jvm.MethodName)) ∈ lw_all := lw_g (lw_at lw_m5 13 rfl) rfl
theorem q1099 : (Jvm.Cond.code ({ cls := "java/lang/String", name := "substring", desc := "(II)Ljava/lang/String;" } : Jvm.MethodName) prog_40_method_92_code (5 : Nat) (Option.some (Jvm.ClassFile.FieldType.object "java/lang/String"))) ∈ lw_all := lw_g (lw_at lw_m5 14 rfl) rfl
theorem q1100 : (Jvm.Cond.methodLink "java/lang/String" (505 : Nat) ({ cls := "java/lang/String", name := "length", desc := "()I" } : Jvm.MethodName)) ∈ lw_all := lw_g (lw_at lw_m5 15 rfl) rfl
theorem q1101 : (Jvm.Cond.methodLink "java/lang/String" (521 : Nat) ({ cls := "java/lang/String", name := "checkBoundsBeginEnd", desc := "(III)V" } : Jvm.MethodName)) ∈ lw_all := lw_g (lw_at lw_m5 16 rfl) rfl
theorem q1102 : (Jvm.Cond.static ({ cls := "java/lang/String", name := "checkBoundsBeginEnd", desc := "(III)V" } : Jvm.MethodName)) ∈ lw_all := lw_g (lw_at lw_m5 17 rfl) rfl
theorem q1103 : (Jvm.Cond.code ({ cls := "java/lang/String", name := "checkBoundsBeginEnd", desc := "(III)V" } : Jvm.MethodName) prog_40_method_158_code (3 : Nat) (Option.none : Option Jvm.ClassFile.FieldType)) ∈ lw_all := lw_g (lw_at lw_m5 18 rfl) rfl
theorem q1104 : (Jvm.Cond.methodLink "java/lang/String" (1062 : Nat) ({ cls := "jdk/internal/util/Preconditions", name := "checkFromToIndex", desc := "(IIILjava/util/function/BiFunction;)I" } : Jvm.MethodName)) ∈ lw_all := lw_g (lw_at lw_m5 19 rfl) rfl
theorem q1107 : (Jvm.Cond.methodLink "java/lang/String" (685 : Nat) ({ cls := "java/lang/StringLatin1", name := "newString", desc := "([BII)Ljava/lang/String;" } : Jvm.MethodName)) ∈ lw_all := lw_g (lw_at lw_m5 22 rfl) rfl
theorem q1114 : (Jvm.Cond.instanceMethod ({ cls := "java/lang/String", name := "<init>", desc := "([BB)V" } : Jvm.MethodName)) ∈ lw_all := lw_g (lw_at lw_m5 29 rfl) rfl
theorem q1115 : (Jvm.Cond.code ({ cls := "java/lang/String", name := "<init>", desc := "([BB)V" } : Jvm.MethodName) prog_40_method_151_code (3 : Nat) (Option.none : Option Jvm.ClassFile.FieldType)) ∈ lw_all := lw_g (lw_at lw_m5 30 rfl) rfl
theorem q1116 : (Jvm.Cond.methodLink "java/lang/String" (689 : Nat) ({ cls := "java/lang/StringUTF16", name := "newString", desc := "([BII)Ljava/lang/String;" } : Jvm.MethodName)) ∈ lw_all := lw_g (lw_at lw_m5 31 rfl) rfl
theorem q1126 : (Jvm.Cond.instanceMethod ({ cls := "java/lang/String", name := "startsWith", desc := "(Ljava/lang/String;)Z" } : Jvm.MethodName)) ∈ lw_all := lw_g (lw_at lw_m5 41 rfl) rfl
theorem q1127 : (Jvm.Cond.selects "java/lang/String" ({ cls := "java/lang/String", name := "startsWith", desc := "(Ljava/lang/String;)Z" } : Jvm.MethodName) ({ cls := "java/lang/String", name := "startsWith", desc := "(Ljava/lang/String;)Z" } : Jvm.MethodName)) ∈ lw_all := lw_g (lw_at lw_m5 42 rfl) rfl
theorem q1128 : (Jvm.Cond.code ({ cls := "java/lang/String", name := "startsWith", desc := "(Ljava/lang/String;)Z" } : Jvm.MethodName) prog_40_method_76_code (2 : Nat) (Option.some Jvm.ClassFile.FieldType.boolean)) ∈ lw_all := lw_g (lw_at lw_m5 43 rfl) rfl
theorem q1129 : (Jvm.Cond.methodLink "java/lang/String" (624 : Nat) ({ cls := "java/lang/String", name := "startsWith", desc := "(Ljava/lang/String;I)Z" } : Jvm.MethodName)) ∈ lw_all := lw_g (lw_at lw_m5 44 rfl) rfl
theorem q1130 : (Jvm.Cond.instanceMethod ({ cls := "java/lang/String", name := "startsWith", desc := "(Ljava/lang/String;I)Z" } : Jvm.MethodName)) ∈ lw_all := lw_g (lw_at lw_m5 45 rfl) rfl
theorem q1131 : (Jvm.Cond.selects "java/lang/String" ({ cls := "java/lang/String", name := "startsWith", desc := "(Ljava/lang/String;I)Z" } : Jvm.MethodName) ({ cls := "java/lang/String", name := "startsWith", desc := "(Ljava/lang/String;I)Z" } : Jvm.MethodName)) ∈ lw_all := lw_g (lw_at lw_m5 46 rfl) rfl
theorem q1132 : (Jvm.Cond.code ({ cls := "java/lang/String", name := "startsWith", desc := "(Ljava/lang/String;I)Z" } : Jvm.MethodName) prog_40_method_75_code (8 : Nat) (Option.some Jvm.ClassFile.FieldType.boolean)) ∈ lw_all := lw_g (lw_at lw_m5 47 rfl) rfl
theorem q1133 : (Jvm.Cond.methodLink "java/lang/String" (607 : Nat) ({ cls := "jdk/internal/util/ArraysSupport", name := "mismatch", desc := "([BI[BII)I" } : Jvm.MethodName)) ∈ lw_all := lw_g (lw_at lw_m5 48 rfl) rfl
theorem q1237 : (Jvm.Cond.methodLink "java/lang/String" (360 : Nat) ({ cls := "java/lang/StringUTF16", name := "getChar", desc := "([BI)C" } : Jvm.MethodName)) ∈ lw_all := lw_g (lw_at lw_m5 152 rfl) rfl
theorem q2096 : (Jvm.Cond.instanceMethod ({ cls := "java/lang/String", name := "getBytes", desc := "([BIB)V" } : Jvm.MethodName)) ∈ lw_all := lw_g (lw_at lw_m9 51 rfl) rfl
theorem q2097 : (Jvm.Cond.selects "java/lang/String" ({ cls := "java/lang/String", name := "getBytes", desc := "([BIB)V" } : Jvm.MethodName) ({ cls := "java/lang/String", name := "getBytes", desc := "([BIB)V" } : Jvm.MethodName)) ∈ lw_all := lw_g (lw_at lw_m9 52 rfl) rfl
theorem q2098 : (Jvm.Cond.code ({ cls := "java/lang/String", name := "getBytes", desc := "([BIB)V" } : Jvm.MethodName) prog_40_method_147_code (4 : Nat) (Option.none : Option Jvm.ClassFile.FieldType)) ∈ lw_all := lw_g (lw_at lw_m9 53 rfl) rfl
theorem q2099 : (Jvm.Cond.methodLink "java/lang/String" (212 : Nat) ({ cls := "java/lang/System", name := "arraycopy", desc := "(Ljava/lang/Object;ILjava/lang/Object;II)V" } : Jvm.MethodName)) ∈ lw_all := lw_g (lw_at lw_m9 54 rfl) rfl
theorem q2100 : (Jvm.Cond.methodLink "java/lang/String" (106 : Nat) ({ cls := "java/lang/StringLatin1", name := "inflate", desc := "([BI[BII)V" } : Jvm.MethodName)) ∈ lw_all := lw_g (lw_at lw_m9 55 rfl) rfl
theorem q2974 : (Jvm.Cond.castable "java/lang/String" "java/lang/Object") ∈ lw_tbl := lw_at lw_m12 209 rfl
theorem in_J6 : ∀ w ∈ wsJ60, w ∈ lw_all := lw_in wsJ60 [492, 494, 496, 498] (by decide +kernel) (by decide +kernel)

/-! java/lang/StringUTF16 -/
set_option maxRecDepth 100000
def RJ7 : String := "java/lang/StringUTF16"
abbrev cJ7_newBytesFor : ByteArray := prog_43_method_2_code
def yJ7_newBytesFor : MethodName := ⟨RJ7, "newBytesFor", "(I)[B"⟩
def dkwJ7_newBytesFor_0 : List UInt8 := [26, 184, 0, 11, 188, 8, 176]
abbrev dktJ7_newBytesFor_0 : List UInt8 := dkwJ7_newBytesFor_0 ++ []
theorem dksJ7_newBytesFor_0 : cJ7_newBytesFor.data.toList.drop 0 = dktJ7_newBytesFor_0 := by decide +kernel
theorem dJ7_newBytesFor_0 : decode cJ7_newBytesFor 0 = .ok (.iload_n 0, 1) := dk_26 (dk_at dksJ7_newBytesFor_0 0 rfl rfl)
theorem dJ7_newBytesFor_1 : decode cJ7_newBytesFor 1 = .ok (.invokestatic 11, 3) := dk_184 0 11 (dk_at dksJ7_newBytesFor_0 1 rfl rfl)
theorem dJ7_newBytesFor_4 : decode cJ7_newBytesFor 4 = .ok (.newarray .byte, 2) := dk_188_8 (dk_at dksJ7_newBytesFor_0 4 rfl rfl)
theorem dJ7_newBytesFor_6 : decode cJ7_newBytesFor 6 = .ok (.areturn, 1) := dk_176 (dk_at dksJ7_newBytesFor_0 6 rfl rfl)
abbrev cJ7_newBytesLength : ByteArray := prog_43_method_3_code
def yJ7_newBytesLength : MethodName := ⟨RJ7, "newBytesLength", "(I)I"⟩
def dkwJ7_newBytesLength_2 : List UInt8 := [182, 0, 32, 182, 0, 37, 183, 0, 41, 191, 26, 4, 120, 172]
abbrev dktJ7_newBytesLength_2 : List UInt8 := dkwJ7_newBytesLength_2 ++ []
def dkwJ7_newBytesLength_1 : List UInt8 := [187, 0, 23, 89, 183, 0, 25, 18, 26, 182, 0, 28, 26, 182, 0, 32, 18, 35, 182, 0, 28, 18, 20]
abbrev dktJ7_newBytesLength_1 : List UInt8 := dkwJ7_newBytesLength_1 ++ dktJ7_newBytesLength_2
def dkwJ7_newBytesLength_0 : List UInt8 := [26, 156, 0, 11, 187, 0, 17, 89, 183, 0, 19, 191, 26, 18, 20, 161, 0, 40, 187, 0, 21, 89]
abbrev dktJ7_newBytesLength_0 : List UInt8 := dkwJ7_newBytesLength_0 ++ dktJ7_newBytesLength_1
theorem dksJ7_newBytesLength_0 : cJ7_newBytesLength.data.toList.drop 0 = dktJ7_newBytesLength_0 := by decide +kernel
theorem dksJ7_newBytesLength_1 : cJ7_newBytesLength.data.toList.drop 22 = dktJ7_newBytesLength_1 := dk_seg dksJ7_newBytesLength_0 22 rfl rfl
theorem dksJ7_newBytesLength_2 : cJ7_newBytesLength.data.toList.drop 45 = dktJ7_newBytesLength_2 := dk_seg dksJ7_newBytesLength_1 23 rfl rfl
theorem dJ7_newBytesLength_0 : decode cJ7_newBytesLength 0 = .ok (.iload_n 0, 1) := dk_26 (dk_at dksJ7_newBytesLength_0 0 rfl rfl)
theorem dJ7_newBytesLength_1 : decode cJ7_newBytesLength 1 = .ok (.ifCond .ge 11, 3) := dk_156 0 11 (dk_at dksJ7_newBytesLength_0 1 rfl rfl)
theorem dJ7_newBytesLength_4 : decode cJ7_newBytesLength 4 = .ok (.new 17, 3) := dk_187 0 17 (dk_at dksJ7_newBytesLength_0 4 rfl rfl)
theorem dJ7_newBytesLength_7 : decode cJ7_newBytesLength 7 = .ok (.dup, 1) := dk_89 (dk_at dksJ7_newBytesLength_0 7 rfl rfl)
theorem dJ7_newBytesLength_8 : decode cJ7_newBytesLength 8 = .ok (.invokespecial 19, 3) := dk_183 0 19 (dk_at dksJ7_newBytesLength_0 8 rfl rfl)
theorem dJ7_newBytesLength_11 : decode cJ7_newBytesLength 11 = .ok (.athrow, 1) := dk_191 (dk_at dksJ7_newBytesLength_0 11 rfl rfl)
theorem dJ7_newBytesLength_12 : decode cJ7_newBytesLength 12 = .ok (.iload_n 0, 1) := dk_26 (dk_at dksJ7_newBytesLength_0 12 rfl rfl)
theorem dJ7_newBytesLength_13 : decode cJ7_newBytesLength 13 = .ok (.ldc 20, 2) := dk_18 20 (dk_at dksJ7_newBytesLength_0 13 rfl rfl)
theorem dJ7_newBytesLength_15 : decode cJ7_newBytesLength 15 = .ok (.if_icmp .lt 40, 3) := dk_161 0 40 (dk_at dksJ7_newBytesLength_0 15 rfl rfl)
theorem dJ7_newBytesLength_18 : decode cJ7_newBytesLength 18 = .ok (.new 21, 3) := dk_187 0 21 (dk_at dksJ7_newBytesLength_0 18 rfl rfl)
theorem dJ7_newBytesLength_21 : decode cJ7_newBytesLength 21 = .ok (.dup, 1) := dk_89 (dk_at dksJ7_newBytesLength_0 21 rfl rfl)
theorem dJ7_newBytesLength_22 : decode cJ7_newBytesLength 22 = .ok (.new 23, 3) := dk_187 0 23 (dk_at dksJ7_newBytesLength_1 0 rfl rfl)
theorem dJ7_newBytesLength_25 : decode cJ7_newBytesLength 25 = .ok (.dup, 1) := dk_89 (dk_at dksJ7_newBytesLength_1 3 rfl rfl)
theorem dJ7_newBytesLength_26 : decode cJ7_newBytesLength 26 = .ok (.invokespecial 25, 3) := dk_183 0 25 (dk_at dksJ7_newBytesLength_1 4 rfl rfl)
theorem dJ7_newBytesLength_29 : decode cJ7_newBytesLength 29 = .ok (.ldc 26, 2) := dk_18 26 (dk_at dksJ7_newBytesLength_1 7 rfl rfl)
theorem dJ7_newBytesLength_31 : decode cJ7_newBytesLength 31 = .ok (.invokevirtual 28, 3) := dk_182 0 28 (dk_at dksJ7_newBytesLength_1 9 rfl rfl)
theorem dJ7_newBytesLength_34 : decode cJ7_newBytesLength 34 = .ok (.iload_n 0, 1) := dk_26 (dk_at dksJ7_newBytesLength_1 12 rfl rfl)
theorem dJ7_newBytesLength_35 : decode cJ7_newBytesLength 35 = .ok (.invokevirtual 32, 3) := dk_182 0 32 (dk_at dksJ7_newBytesLength_1 13 rfl rfl)
theorem dJ7_newBytesLength_38 : decode cJ7_newBytesLength 38 = .ok (.ldc 35, 2) := dk_18 35 (dk_at dksJ7_newBytesLength_1 16 rfl rfl)
theorem dJ7_newBytesLength_40 : decode cJ7_newBytesLength 40 = .ok (.invokevirtual 28, 3) := dk_182 0 28 (dk_at dksJ7_newBytesLength_1 18 rfl rfl)
theorem dJ7_newBytesLength_43 : decode cJ7_newBytesLength 43 = .ok (.ldc 20, 2) := dk_18 20 (dk_at dksJ7_newBytesLength_1 21 rfl rfl)
theorem dJ7_newBytesLength_45 : decode cJ7_newBytesLength 45 = .ok (.invokevirtual 32, 3) := dk_182 0 32 (dk_at dksJ7_newBytesLength_2 0 rfl rfl)
theorem dJ7_newBytesLength_48 : decode cJ7_newBytesLength 48 = .ok (.invokevirtual 37, 3) := dk_182 0 37 (dk_at dksJ7_newBytesLength_2 3 rfl rfl)
theorem dJ7_newBytesLength_51 : decode cJ7_newBytesLength 51 = .ok (.invokespecial 41, 3) := dk_183 0 41 (dk_at dksJ7_newBytesLength_2 6 rfl rfl)
theorem dJ7_newBytesLength_54 : decode cJ7_newBytesLength 54 = .ok (.athrow, 1) := dk_191 (dk_at dksJ7_newBytesLength_2 9 rfl rfl)
theorem dJ7_newBytesLength_55 : decode cJ7_newBytesLength 55 = .ok (.iload_n 0, 1) := dk_26 (dk_at dksJ7_newBytesLength_2 10 rfl rfl)
theorem dJ7_newBytesLength_56 : decode cJ7_newBytesLength 56 = .ok (.iconst 1, 1) := dk_4 (dk_at dksJ7_newBytesLength_2 11 rfl rfl)
theorem dJ7_newBytesLength_57 : decode cJ7_newBytesLength 57 = .ok (.ishl, 1) := dk_120 (dk_at dksJ7_newBytesLength_2 12 rfl rfl)
theorem dJ7_newBytesLength_58 : decode cJ7_newBytesLength 58 = .ok (.ireturn, 1) := dk_172 (dk_at dksJ7_newBytesLength_2 13 rfl rfl)
abbrev cJ7_inflate : ByteArray := prog_43_method_86_code
def yJ7_inflate : MethodName := ⟨RJ7, "inflate", "([BI[BII)V"⟩
def dkwJ7_inflate_1 : List UInt8 := [132, 1, 1, 51, 17, 0, 255, 126, 184, 0, 111, 132, 5, 1, 167, 255, 228, 177]
abbrev dktJ7_inflate_1 : List UInt8 := dkwJ7_inflate_1 ++ []
def dkwJ7_inflate_0 : List UInt8 := [29, 21, 4, 44, 184, 0, 173, 3, 54, 5, 21, 5, 21, 4, 162, 0, 27, 44, 29, 132, 3, 1, 42, 27]
abbrev dktJ7_inflate_0 : List UInt8 := dkwJ7_inflate_0 ++ dktJ7_inflate_1
theorem dksJ7_inflate_0 : cJ7_inflate.data.toList.drop 0 = dktJ7_inflate_0 := by decide +kernel
theorem dksJ7_inflate_1 : cJ7_inflate.data.toList.drop 24 = dktJ7_inflate_1 := dk_seg dksJ7_inflate_0 24 rfl rfl
theorem dJ7_inflate_0 : decode cJ7_inflate 0 = .ok (.iload_n 3, 1) := dk_29 (dk_at dksJ7_inflate_0 0 rfl rfl)
theorem dJ7_inflate_1 : decode cJ7_inflate 1 = .ok (.iload 4, 2) := dk_21 4 (dk_at dksJ7_inflate_0 1 rfl rfl)
theorem dJ7_inflate_3 : decode cJ7_inflate 3 = .ok (.aload_n 2, 1) := dk_44 (dk_at dksJ7_inflate_0 3 rfl rfl)
theorem dJ7_inflate_4 : decode cJ7_inflate 4 = .ok (.invokestatic 173, 3) := dk_184 0 173 (dk_at dksJ7_inflate_0 4 rfl rfl)
theorem dJ7_inflate_7 : decode cJ7_inflate 7 = .ok (.iconst 0, 1) := dk_3 (dk_at dksJ7_inflate_0 7 rfl rfl)
theorem dJ7_inflate_8 : decode cJ7_inflate 8 = .ok (.istore 5, 2) := dk_54 5 (dk_at dksJ7_inflate_0 8 rfl rfl)
theorem dJ7_inflate_10 : decode cJ7_inflate 10 = .ok (.iload 5, 2) := dk_21 5 (dk_at dksJ7_inflate_0 10 rfl rfl)
theorem dJ7_inflate_12 : decode cJ7_inflate 12 = .ok (.iload 4, 2) := dk_21 4 (dk_at dksJ7_inflate_0 12 rfl rfl)
theorem dJ7_inflate_14 : decode cJ7_inflate 14 = .ok (.if_icmp .ge 27, 3) := dk_162 0 27 (dk_at dksJ7_inflate_0 14 rfl rfl)
theorem dJ7_inflate_17 : decode cJ7_inflate 17 = .ok (.aload_n 2, 1) := dk_44 (dk_at dksJ7_inflate_0 17 rfl rfl)
theorem dJ7_inflate_18 : decode cJ7_inflate 18 = .ok (.iload_n 3, 1) := dk_29 (dk_at dksJ7_inflate_0 18 rfl rfl)
theorem dJ7_inflate_19 : decode cJ7_inflate 19 = .ok (.iinc 3 1, 3) := dk_132 3 1 (dk_at dksJ7_inflate_0 19 rfl rfl)
theorem dJ7_inflate_22 : decode cJ7_inflate 22 = .ok (.aload_n 0, 1) := dk_42 (dk_at dksJ7_inflate_0 22 rfl rfl)
theorem dJ7_inflate_23 : decode cJ7_inflate 23 = .ok (.iload_n 1, 1) := dk_27 (dk_at dksJ7_inflate_0 23 rfl rfl)
theorem dJ7_inflate_24 : decode cJ7_inflate 24 = .ok (.iinc 1 1, 3) := dk_132 1 1 (dk_at dksJ7_inflate_1 0 rfl rfl)
theorem dJ7_inflate_27 : decode cJ7_inflate 27 = .ok (.baload, 1) := dk_51 (dk_at dksJ7_inflate_1 3 rfl rfl)
theorem dJ7_inflate_28 : decode cJ7_inflate 28 = .ok (.sipush 255, 3) := dk_17 0 255 (dk_at dksJ7_inflate_1 4 rfl rfl)
theorem dJ7_inflate_31 : decode cJ7_inflate 31 = .ok (.iand, 1) := dk_126 (dk_at dksJ7_inflate_1 7 rfl rfl)
theorem dJ7_inflate_32 : decode cJ7_inflate 32 = .ok (.invokestatic 111, 3) := dk_184 0 111 (dk_at dksJ7_inflate_1 8 rfl rfl)
theorem dJ7_inflate_35 : decode cJ7_inflate 35 = .ok (.iinc 5 1, 3) := dk_132 5 1 (dk_at dksJ7_inflate_1 11 rfl rfl)
theorem dJ7_inflate_38 : decode cJ7_inflate 38 = .ok (.goto (-28), 3) := dk_167 255 228 (dk_at dksJ7_inflate_1 14 rfl rfl)
theorem dJ7_inflate_41 : decode cJ7_inflate 41 = .ok (.return_, 1) := dk_177 (dk_at dksJ7_inflate_1 17 rfl rfl)
abbrev cJ7_checkBoundsOffCount : ByteArray := prog_43_method_94_code
def yJ7_checkBoundsOffCount : MethodName := ⟨RJ7, "checkBoundsOffCount", "(II[B)V"⟩
def dkwJ7_checkBoundsOffCount_0 : List UInt8 := [26, 27, 44, 184, 0, 48, 184, 1, 163, 87, 177]
abbrev dktJ7_checkBoundsOffCount_0 : List UInt8 := dkwJ7_checkBoundsOffCount_0 ++ []
theorem dksJ7_checkBoundsOffCount_0 : cJ7_checkBoundsOffCount.data.toList.drop 0 = dktJ7_checkBoundsOffCount_0 := by decide +kernel
theorem dJ7_checkBoundsOffCount_0 : decode cJ7_checkBoundsOffCount 0 = .ok (.iload_n 0, 1) := dk_26 (dk_at dksJ7_checkBoundsOffCount_0 0 rfl rfl)
theorem dJ7_checkBoundsOffCount_1 : decode cJ7_checkBoundsOffCount 1 = .ok (.iload_n 1, 1) := dk_27 (dk_at dksJ7_checkBoundsOffCount_0 1 rfl rfl)
theorem dJ7_checkBoundsOffCount_2 : decode cJ7_checkBoundsOffCount 2 = .ok (.aload_n 2, 1) := dk_44 (dk_at dksJ7_checkBoundsOffCount_0 2 rfl rfl)
theorem dJ7_checkBoundsOffCount_3 : decode cJ7_checkBoundsOffCount 3 = .ok (.invokestatic 48, 3) := dk_184 0 48 (dk_at dksJ7_checkBoundsOffCount_0 3 rfl rfl)
theorem dJ7_checkBoundsOffCount_6 : decode cJ7_checkBoundsOffCount 6 = .ok (.invokestatic 419, 3) := dk_184 1 163 (dk_at dksJ7_checkBoundsOffCount_0 6 rfl rfl)
theorem dJ7_checkBoundsOffCount_9 : decode cJ7_checkBoundsOffCount 9 = .ok (.pop, 1) := dk_87 (dk_at dksJ7_checkBoundsOffCount_0 9 rfl rfl)
theorem dJ7_checkBoundsOffCount_10 : decode cJ7_checkBoundsOffCount 10 = .ok (.return_, 1) := dk_177 (dk_at dksJ7_checkBoundsOffCount_0 10 rfl rfl)
abbrev cJ7_length : ByteArray := prog_43_method_6_code
def yJ7_length : MethodName := ⟨RJ7, "length", "([B)I"⟩
def dkwJ7_length_0 : List UInt8 := [42, 190, 4, 122, 172]
abbrev dktJ7_length_0 : List UInt8 := dkwJ7_length_0 ++ []
theorem dksJ7_length_0 : cJ7_length.data.toList.drop 0 = dktJ7_length_0 := by decide +kernel
theorem dJ7_length_0 : decode cJ7_length 0 = .ok (.aload_n 0, 1) := dk_42 (dk_at dksJ7_length_0 0 rfl rfl)
theorem dJ7_length_1 : decode cJ7_length 1 = .ok (.arraylength, 1) := dk_190 (dk_at dksJ7_length_0 1 rfl rfl)
theorem dJ7_length_2 : decode cJ7_length 2 = .ok (.iconst 1, 1) := dk_4 (dk_at dksJ7_length_0 2 rfl rfl)
theorem dJ7_length_3 : decode cJ7_length 3 = .ok (.ishr, 1) := dk_122 (dk_at dksJ7_length_0 3 rfl rfl)
theorem dJ7_length_4 : decode cJ7_length 4 = .ok (.ireturn, 1) := dk_172 (dk_at dksJ7_length_0 4 rfl rfl)
abbrev cJ7_putChar : ByteArray := prog_43_method_4_code
def yJ7_putChar : MethodName := ⟨RJ7, "putChar", "([BII)V"⟩
def dkwJ7_putChar_2 : List UInt8 := [178, 0, 63, 122, 145, 84, 177]
abbrev dktJ7_putChar_2 : List UInt8 := dkwJ7_putChar_2 ++ []
def dkwJ7_putChar_1 : List UInt8 := [183, 0, 56, 191, 27, 4, 120, 60, 42, 27, 132, 1, 1, 28, 178, 0, 59, 122, 145, 84, 42, 27, 28]
abbrev dktJ7_putChar_1 : List UInt8 := dkwJ7_putChar_1 ++ dktJ7_putChar_2
def dkwJ7_putChar_0 : List UInt8 := [178, 0, 44, 154, 0, 25, 27, 155, 0, 11, 27, 42, 184, 0, 48, 161, 0, 13, 187, 0, 52, 89, 18, 54]
abbrev dktJ7_putChar_0 : List UInt8 := dkwJ7_putChar_0 ++ dktJ7_putChar_1
theorem dksJ7_putChar_0 : cJ7_putChar.data.toList.drop 0 = dktJ7_putChar_0 := by decide +kernel
theorem dksJ7_putChar_1 : cJ7_putChar.data.toList.drop 24 = dktJ7_putChar_1 := dk_seg dksJ7_putChar_0 24 rfl rfl
theorem dksJ7_putChar_2 : cJ7_putChar.data.toList.drop 47 = dktJ7_putChar_2 := dk_seg dksJ7_putChar_1 23 rfl rfl
theorem dJ7_putChar_0 : decode cJ7_putChar 0 = .ok (.getstatic 44, 3) := dk_178 0 44 (dk_at dksJ7_putChar_0 0 rfl rfl)
theorem dJ7_putChar_3 : decode cJ7_putChar 3 = .ok (.ifCond .ne 25, 3) := dk_154 0 25 (dk_at dksJ7_putChar_0 3 rfl rfl)
theorem dJ7_putChar_6 : decode cJ7_putChar 6 = .ok (.iload_n 1, 1) := dk_27 (dk_at dksJ7_putChar_0 6 rfl rfl)
theorem dJ7_putChar_7 : decode cJ7_putChar 7 = .ok (.ifCond .lt 11, 3) := dk_155 0 11 (dk_at dksJ7_putChar_0 7 rfl rfl)
theorem dJ7_putChar_10 : decode cJ7_putChar 10 = .ok (.iload_n 1, 1) := dk_27 (dk_at dksJ7_putChar_0 10 rfl rfl)
theorem dJ7_putChar_11 : decode cJ7_putChar 11 = .ok (.aload_n 0, 1) := dk_42 (dk_at dksJ7_putChar_0 11 rfl rfl)
theorem dJ7_putChar_12 : decode cJ7_putChar 12 = .ok (.invokestatic 48, 3) := dk_184 0 48 (dk_at dksJ7_putChar_0 12 rfl rfl)
theorem dJ7_putChar_15 : decode cJ7_putChar 15 = .ok (.if_icmp .lt 13, 3) := dk_161 0 13 (dk_at dksJ7_putChar_0 15 rfl rfl)
theorem dJ7_putChar_18 : decode cJ7_putChar 18 = .ok (.new 52, 3) := dk_187 0 52 (dk_at dksJ7_putChar_0 18 rfl rfl)
theorem dJ7_putChar_21 : decode cJ7_putChar 21 = .ok (.dup, 1) := dk_89 (dk_at dksJ7_putChar_0 21 rfl rfl)
theorem dJ7_putChar_22 : decode cJ7_putChar 22 = .ok (.ldc 54, 2) := dk_18 54 (dk_at dksJ7_putChar_0 22 rfl rfl)
theorem dJ7_putChar_24 : decode cJ7_putChar 24 = .ok (.invokespecial 56, 3) := dk_183 0 56 (dk_at dksJ7_putChar_1 0 rfl rfl)
theorem dJ7_putChar_27 : decode cJ7_putChar 27 = .ok (.athrow, 1) := dk_191 (dk_at dksJ7_putChar_1 3 rfl rfl)
theorem dJ7_putChar_28 : decode cJ7_putChar 28 = .ok (.iload_n 1, 1) := dk_27 (dk_at dksJ7_putChar_1 4 rfl rfl)
theorem dJ7_putChar_29 : decode cJ7_putChar 29 = .ok (.iconst 1, 1) := dk_4 (dk_at dksJ7_putChar_1 5 rfl rfl)
theorem dJ7_putChar_30 : decode cJ7_putChar 30 = .ok (.ishl, 1) := dk_120 (dk_at dksJ7_putChar_1 6 rfl rfl)
theorem dJ7_putChar_31 : decode cJ7_putChar 31 = .ok (.istore_n 1, 1) := dk_60 (dk_at dksJ7_putChar_1 7 rfl rfl)
theorem dJ7_putChar_32 : decode cJ7_putChar 32 = .ok (.aload_n 0, 1) := dk_42 (dk_at dksJ7_putChar_1 8 rfl rfl)
theorem dJ7_putChar_33 : decode cJ7_putChar 33 = .ok (.iload_n 1, 1) := dk_27 (dk_at dksJ7_putChar_1 9 rfl rfl)
theorem dJ7_putChar_34 : decode cJ7_putChar 34 = .ok (.iinc 1 1, 3) := dk_132 1 1 (dk_at dksJ7_putChar_1 10 rfl rfl)
theorem dJ7_putChar_37 : decode cJ7_putChar 37 = .ok (.iload_n 2, 1) := dk_28 (dk_at dksJ7_putChar_1 13 rfl rfl)
theorem dJ7_putChar_38 : decode cJ7_putChar 38 = .ok (.getstatic 59, 3) := dk_178 0 59 (dk_at dksJ7_putChar_1 14 rfl rfl)
theorem dJ7_putChar_41 : decode cJ7_putChar 41 = .ok (.ishr, 1) := dk_122 (dk_at dksJ7_putChar_1 17 rfl rfl)
theorem dJ7_putChar_42 : decode cJ7_putChar 42 = .ok (.i2b, 1) := dk_145 (dk_at dksJ7_putChar_1 18 rfl rfl)
theorem dJ7_putChar_43 : decode cJ7_putChar 43 = .ok (.bastore, 1) := dk_84 (dk_at dksJ7_putChar_1 19 rfl rfl)
theorem dJ7_putChar_44 : decode cJ7_putChar 44 = .ok (.aload_n 0, 1) := dk_42 (dk_at dksJ7_putChar_1 20 rfl rfl)
theorem dJ7_putChar_45 : decode cJ7_putChar 45 = .ok (.iload_n 1, 1) := dk_27 (dk_at dksJ7_putChar_1 21 rfl rfl)
theorem dJ7_putChar_46 : decode cJ7_putChar 46 = .ok (.iload_n 2, 1) := dk_28 (dk_at dksJ7_putChar_1 22 rfl rfl)
theorem dJ7_putChar_47 : decode cJ7_putChar 47 = .ok (.getstatic 63, 3) := dk_178 0 63 (dk_at dksJ7_putChar_2 0 rfl rfl)
theorem dJ7_putChar_50 : decode cJ7_putChar 50 = .ok (.ishr, 1) := dk_122 (dk_at dksJ7_putChar_2 3 rfl rfl)
theorem dJ7_putChar_51 : decode cJ7_putChar 51 = .ok (.i2b, 1) := dk_145 (dk_at dksJ7_putChar_2 4 rfl rfl)
theorem dJ7_putChar_52 : decode cJ7_putChar 52 = .ok (.bastore, 1) := dk_84 (dk_at dksJ7_putChar_2 5 rfl rfl)
theorem dJ7_putChar_53 : decode cJ7_putChar 53 = .ok (.return_, 1) := dk_177 (dk_at dksJ7_putChar_2 6 rfl rfl)
abbrev cJ7_putCharSB : ByteArray := prog_43_method_71_code
def yJ7_putCharSB : MethodName := ⟨RJ7, "putCharSB", "([BII)V"⟩
def dkwJ7_putCharSB_0 : List UInt8 := [27, 42, 184, 0, 67, 42, 27, 28, 184, 0, 111, 177]
abbrev dktJ7_putCharSB_0 : List UInt8 := dkwJ7_putCharSB_0 ++ []
theorem dksJ7_putCharSB_0 : cJ7_putCharSB.data.toList.drop 0 = dktJ7_putCharSB_0 := by decide +kernel
theorem dJ7_putCharSB_0 : decode cJ7_putCharSB 0 = .ok (.iload_n 1, 1) := dk_27 (dk_at dksJ7_putCharSB_0 0 rfl rfl)
theorem dJ7_putCharSB_1 : decode cJ7_putCharSB 1 = .ok (.aload_n 0, 1) := dk_42 (dk_at dksJ7_putCharSB_0 1 rfl rfl)
theorem dJ7_putCharSB_2 : decode cJ7_putCharSB 2 = .ok (.invokestatic 67, 3) := dk_184 0 67 (dk_at dksJ7_putCharSB_0 2 rfl rfl)
theorem dJ7_putCharSB_5 : decode cJ7_putCharSB 5 = .ok (.aload_n 0, 1) := dk_42 (dk_at dksJ7_putCharSB_0 5 rfl rfl)
theorem dJ7_putCharSB_6 : decode cJ7_putCharSB 6 = .ok (.iload_n 1, 1) := dk_27 (dk_at dksJ7_putCharSB_0 6 rfl rfl)
theorem dJ7_putCharSB_7 : decode cJ7_putCharSB 7 = .ok (.iload_n 2, 1) := dk_28 (dk_at dksJ7_putCharSB_0 7 rfl rfl)
theorem dJ7_putCharSB_8 : decode cJ7_putCharSB 8 = .ok (.invokestatic 111, 3) := dk_184 0 111 (dk_at dksJ7_putCharSB_0 8 rfl rfl)
theorem dJ7_putCharSB_11 : decode cJ7_putCharSB 11 = .ok (.return_, 1) := dk_177 (dk_at dksJ7_putCharSB_0 11 rfl rfl)
abbrev cJ7_checkIndex : ByteArray := prog_43_method_91_code
def yJ7_checkIndex : MethodName := ⟨RJ7, "checkIndex", "(I[B)V"⟩
def dkwJ7_checkIndex_0 : List UInt8 := [26, 43, 184, 0, 48, 184, 1, 158, 177]
abbrev dktJ7_checkIndex_0 : List UInt8 := dkwJ7_checkIndex_0 ++ []
theorem dksJ7_checkIndex_0 : cJ7_checkIndex.data.toList.drop 0 = dktJ7_checkIndex_0 := by decide +kernel
theorem dJ7_checkIndex_0 : decode cJ7_checkIndex 0 = .ok (.iload_n 0, 1) := dk_26 (dk_at dksJ7_checkIndex_0 0 rfl rfl)
theorem dJ7_checkIndex_1 : decode cJ7_checkIndex 1 = .ok (.aload_n 1, 1) := dk_43 (dk_at dksJ7_checkIndex_0 1 rfl rfl)
theorem dJ7_checkIndex_2 : decode cJ7_checkIndex 2 = .ok (.invokestatic 48, 3) := dk_184 0 48 (dk_at dksJ7_checkIndex_0 2 rfl rfl)
theorem dJ7_checkIndex_5 : decode cJ7_checkIndex 5 = .ok (.invokestatic 414, 3) := dk_184 1 158 (dk_at dksJ7_checkIndex_0 5 rfl rfl)
theorem dJ7_checkIndex_8 : decode cJ7_checkIndex 8 = .ok (.return_, 1) := dk_177 (dk_at dksJ7_checkIndex_0 8 rfl rfl)
abbrev cJ7_compress : ByteArray := prog_43_method_17_code
def yJ7_compress : MethodName := ⟨RJ7, "compress", "([BII)[B"⟩
def dkwJ7_compress_2 : List UInt8 := [25, 5, 3, 45, 3, 28, 184, 0, 123, 28, 159, 0, 6, 25, 5, 176, 45, 176]
abbrev dktJ7_compress_2 : List UInt8 := dkwJ7_compress_2 ++ []
def dkwJ7_compress_1 : List UInt8 := [27, 28, 96, 184, 0, 11, 184, 0, 126, 58, 5, 25, 5, 21, 4, 184, 0, 71, 17, 0, 255, 163, 0, 16]
abbrev dktJ7_compress_1 : List UInt8 := dkwJ7_compress_1 ++ dktJ7_compress_2
def dkwJ7_compress_0 : List UInt8 := [28, 188, 8, 78, 42, 27, 45, 3, 28, 184, 0, 123, 54, 4, 21, 4, 28, 159, 0, 47, 42, 27, 4, 120]
abbrev dktJ7_compress_0 : List UInt8 := dkwJ7_compress_0 ++ dktJ7_compress_1
theorem dksJ7_compress_0 : cJ7_compress.data.toList.drop 0 = dktJ7_compress_0 := by decide +kernel
theorem dksJ7_compress_1 : cJ7_compress.data.toList.drop 24 = dktJ7_compress_1 := dk_seg dksJ7_compress_0 24 rfl rfl
theorem dksJ7_compress_2 : cJ7_compress.data.toList.drop 48 = dktJ7_compress_2 := dk_seg dksJ7_compress_1 24 rfl rfl
theorem dJ7_compress_0 : decode cJ7_compress 0 = .ok (.iload_n 2, 1) := dk_28 (dk_at dksJ7_compress_0 0 rfl rfl)
theorem dJ7_compress_1 : decode cJ7_compress 1 = .ok (.newarray .byte, 2) := dk_188_8 (dk_at dksJ7_compress_0 1 rfl rfl)
theorem dJ7_compress_3 : decode cJ7_compress 3 = .ok (.astore_n 3, 1) := dk_78 (dk_at dksJ7_compress_0 3 rfl rfl)
theorem dJ7_compress_4 : decode cJ7_compress 4 = .ok (.aload_n 0, 1) := dk_42 (dk_at dksJ7_compress_0 4 rfl rfl)
theorem dJ7_compress_5 : decode cJ7_compress 5 = .ok (.iload_n 1, 1) := dk_27 (dk_at dksJ7_compress_0 5 rfl rfl)
theorem dJ7_compress_6 : decode cJ7_compress 6 = .ok (.aload_n 3, 1) := dk_45 (dk_at dksJ7_compress_0 6 rfl rfl)
theorem dJ7_compress_7 : decode cJ7_compress 7 = .ok (.iconst 0, 1) := dk_3 (dk_at dksJ7_compress_0 7 rfl rfl)
theorem dJ7_compress_8 : decode cJ7_compress 8 = .ok (.iload_n 2, 1) := dk_28 (dk_at dksJ7_compress_0 8 rfl rfl)
theorem dJ7_compress_9 : decode cJ7_compress 9 = .ok (.invokestatic 123, 3) := dk_184 0 123 (dk_at dksJ7_compress_0 9 rfl rfl)
theorem dJ7_compress_12 : decode cJ7_compress 12 = .ok (.istore 4, 2) := dk_54 4 (dk_at dksJ7_compress_0 12 rfl rfl)
theorem dJ7_compress_14 : decode cJ7_compress 14 = .ok (.iload 4, 2) := dk_21 4 (dk_at dksJ7_compress_0 14 rfl rfl)
theorem dJ7_compress_16 : decode cJ7_compress 16 = .ok (.iload_n 2, 1) := dk_28 (dk_at dksJ7_compress_0 16 rfl rfl)
theorem dJ7_compress_17 : decode cJ7_compress 17 = .ok (.if_icmp .eq 47, 3) := dk_159 0 47 (dk_at dksJ7_compress_0 17 rfl rfl)
theorem dJ7_compress_20 : decode cJ7_compress 20 = .ok (.aload_n 0, 1) := dk_42 (dk_at dksJ7_compress_0 20 rfl rfl)
theorem dJ7_compress_21 : decode cJ7_compress 21 = .ok (.iload_n 1, 1) := dk_27 (dk_at dksJ7_compress_0 21 rfl rfl)
theorem dJ7_compress_22 : decode cJ7_compress 22 = .ok (.iconst 1, 1) := dk_4 (dk_at dksJ7_compress_0 22 rfl rfl)
theorem dJ7_compress_23 : decode cJ7_compress 23 = .ok (.ishl, 1) := dk_120 (dk_at dksJ7_compress_0 23 rfl rfl)
theorem dJ7_compress_24 : decode cJ7_compress 24 = .ok (.iload_n 1, 1) := dk_27 (dk_at dksJ7_compress_1 0 rfl rfl)
theorem dJ7_compress_25 : decode cJ7_compress 25 = .ok (.iload_n 2, 1) := dk_28 (dk_at dksJ7_compress_1 1 rfl rfl)
theorem dJ7_compress_26 : decode cJ7_compress 26 = .ok (.iadd, 1) := dk_96 (dk_at dksJ7_compress_1 2 rfl rfl)
theorem dJ7_compress_27 : decode cJ7_compress 27 = .ok (.invokestatic 11, 3) := dk_184 0 11 (dk_at dksJ7_compress_1 3 rfl rfl)
theorem dJ7_compress_30 : decode cJ7_compress 30 = .ok (.invokestatic 126, 3) := dk_184 0 126 (dk_at dksJ7_compress_1 6 rfl rfl)
theorem dJ7_compress_33 : decode cJ7_compress 33 = .ok (.astore 5, 2) := dk_58 5 (dk_at dksJ7_compress_1 9 rfl rfl)
theorem dJ7_compress_35 : decode cJ7_compress 35 = .ok (.aload 5, 2) := dk_25 5 (dk_at dksJ7_compress_1 11 rfl rfl)
theorem dJ7_compress_37 : decode cJ7_compress 37 = .ok (.iload 4, 2) := dk_21 4 (dk_at dksJ7_compress_1 13 rfl rfl)
theorem dJ7_compress_39 : decode cJ7_compress 39 = .ok (.invokestatic 71, 3) := dk_184 0 71 (dk_at dksJ7_compress_1 15 rfl rfl)
theorem dJ7_compress_42 : decode cJ7_compress 42 = .ok (.sipush 255, 3) := dk_17 0 255 (dk_at dksJ7_compress_1 18 rfl rfl)
theorem dJ7_compress_45 : decode cJ7_compress 45 = .ok (.if_icmp .gt 16, 3) := dk_163 0 16 (dk_at dksJ7_compress_1 21 rfl rfl)
theorem dJ7_compress_48 : decode cJ7_compress 48 = .ok (.aload 5, 2) := dk_25 5 (dk_at dksJ7_compress_2 0 rfl rfl)
theorem dJ7_compress_50 : decode cJ7_compress 50 = .ok (.iconst 0, 1) := dk_3 (dk_at dksJ7_compress_2 2 rfl rfl)
theorem dJ7_compress_51 : decode cJ7_compress 51 = .ok (.aload_n 3, 1) := dk_45 (dk_at dksJ7_compress_2 3 rfl rfl)
theorem dJ7_compress_52 : decode cJ7_compress 52 = .ok (.iconst 0, 1) := dk_3 (dk_at dksJ7_compress_2 4 rfl rfl)
theorem dJ7_compress_53 : decode cJ7_compress 53 = .ok (.iload_n 2, 1) := dk_28 (dk_at dksJ7_compress_2 5 rfl rfl)
theorem dJ7_compress_54 : decode cJ7_compress 54 = .ok (.invokestatic 123, 3) := dk_184 0 123 (dk_at dksJ7_compress_2 6 rfl rfl)
theorem dJ7_compress_57 : decode cJ7_compress 57 = .ok (.iload_n 2, 1) := dk_28 (dk_at dksJ7_compress_2 9 rfl rfl)
theorem dJ7_compress_58 : decode cJ7_compress 58 = .ok (.if_icmp .eq 6, 3) := dk_159 0 6 (dk_at dksJ7_compress_2 10 rfl rfl)
theorem dJ7_compress_61 : decode cJ7_compress 61 = .ok (.aload 5, 2) := dk_25 5 (dk_at dksJ7_compress_2 13 rfl rfl)
theorem dJ7_compress_63 : decode cJ7_compress 63 = .ok (.areturn, 1) := dk_176 (dk_at dksJ7_compress_2 15 rfl rfl)
theorem dJ7_compress_64 : decode cJ7_compress 64 = .ok (.aload_n 3, 1) := dk_45 (dk_at dksJ7_compress_2 16 rfl rfl)
theorem dJ7_compress_65 : decode cJ7_compress 65 = .ok (.areturn, 1) := dk_176 (dk_at dksJ7_compress_2 17 rfl rfl)
abbrev cJ7_compress_2 : ByteArray := prog_43_method_22_code
def yJ7_compress_2 : MethodName := ⟨RJ7, "compress", "([BI[BII)I"⟩
def dkwJ7_compress_2_2 : List UInt8 := [132, 5, 1, 167, 255, 216, 21, 4, 172]
abbrev dktJ7_compress_2_2 : List UInt8 := dkwJ7_compress_2_2 ++ []
def dkwJ7_compress_2_1 : List UInt8 := [21, 6, 17, 0, 255, 164, 0, 6, 21, 5, 172, 44, 29, 21, 6, 145, 84, 132, 1, 1, 132, 3, 1]
abbrev dktJ7_compress_2_1 : List UInt8 := dkwJ7_compress_2_1 ++ dktJ7_compress_2_2
def dkwJ7_compress_2_0 : List UInt8 := [27, 21, 4, 42, 184, 0, 173, 3, 54, 5, 21, 5, 21, 4, 162, 0, 39, 42, 27, 184, 0, 71, 54, 6]
abbrev dktJ7_compress_2_0 : List UInt8 := dkwJ7_compress_2_0 ++ dktJ7_compress_2_1
theorem dksJ7_compress_2_0 : cJ7_compress_2.data.toList.drop 0 = dktJ7_compress_2_0 := by decide +kernel
theorem dksJ7_compress_2_1 : cJ7_compress_2.data.toList.drop 24 = dktJ7_compress_2_1 := dk_seg dksJ7_compress_2_0 24 rfl rfl
theorem dksJ7_compress_2_2 : cJ7_compress_2.data.toList.drop 47 = dktJ7_compress_2_2 := dk_seg dksJ7_compress_2_1 23 rfl rfl
theorem dJ7_compress_2_0 : decode cJ7_compress_2 0 = .ok (.iload_n 1, 1) := dk_27 (dk_at dksJ7_compress_2_0 0 rfl rfl)
theorem dJ7_compress_2_1 : decode cJ7_compress_2 1 = .ok (.iload 4, 2) := dk_21 4 (dk_at dksJ7_compress_2_0 1 rfl rfl)
theorem dJ7_compress_2_3 : decode cJ7_compress_2 3 = .ok (.aload_n 0, 1) := dk_42 (dk_at dksJ7_compress_2_0 3 rfl rfl)
theorem dJ7_compress_2_4 : decode cJ7_compress_2 4 = .ok (.invokestatic 173, 3) := dk_184 0 173 (dk_at dksJ7_compress_2_0 4 rfl rfl)
theorem dJ7_compress_2_7 : decode cJ7_compress_2 7 = .ok (.iconst 0, 1) := dk_3 (dk_at dksJ7_compress_2_0 7 rfl rfl)
theorem dJ7_compress_2_8 : decode cJ7_compress_2 8 = .ok (.istore 5, 2) := dk_54 5 (dk_at dksJ7_compress_2_0 8 rfl rfl)
theorem dJ7_compress_2_10 : decode cJ7_compress_2 10 = .ok (.iload 5, 2) := dk_21 5 (dk_at dksJ7_compress_2_0 10 rfl rfl)
theorem dJ7_compress_2_12 : decode cJ7_compress_2 12 = .ok (.iload 4, 2) := dk_21 4 (dk_at dksJ7_compress_2_0 12 rfl rfl)
theorem dJ7_compress_2_14 : decode cJ7_compress_2 14 = .ok (.if_icmp .ge 39, 3) := dk_162 0 39 (dk_at dksJ7_compress_2_0 14 rfl rfl)
theorem dJ7_compress_2_17 : decode cJ7_compress_2 17 = .ok (.aload_n 0, 1) := dk_42 (dk_at dksJ7_compress_2_0 17 rfl rfl)
theorem dJ7_compress_2_18 : decode cJ7_compress_2 18 = .ok (.iload_n 1, 1) := dk_27 (dk_at dksJ7_compress_2_0 18 rfl rfl)
theorem dJ7_compress_2_19 : decode cJ7_compress_2 19 = .ok (.invokestatic 71, 3) := dk_184 0 71 (dk_at dksJ7_compress_2_0 19 rfl rfl)
theorem dJ7_compress_2_22 : decode cJ7_compress_2 22 = .ok (.istore 6, 2) := dk_54 6 (dk_at dksJ7_compress_2_0 22 rfl rfl)
theorem dJ7_compress_2_24 : decode cJ7_compress_2 24 = .ok (.iload 6, 2) := dk_21 6 (dk_at dksJ7_compress_2_1 0 rfl rfl)
theorem dJ7_compress_2_26 : decode cJ7_compress_2 26 = .ok (.sipush 255, 3) := dk_17 0 255 (dk_at dksJ7_compress_2_1 2 rfl rfl)
theorem dJ7_compress_2_29 : decode cJ7_compress_2 29 = .ok (.if_icmp .le 6, 3) := dk_164 0 6 (dk_at dksJ7_compress_2_1 5 rfl rfl)
theorem dJ7_compress_2_32 : decode cJ7_compress_2 32 = .ok (.iload 5, 2) := dk_21 5 (dk_at dksJ7_compress_2_1 8 rfl rfl)
theorem dJ7_compress_2_34 : decode cJ7_compress_2 34 = .ok (.ireturn, 1) := dk_172 (dk_at dksJ7_compress_2_1 10 rfl rfl)
theorem dJ7_compress_2_35 : decode cJ7_compress_2 35 = .ok (.aload_n 2, 1) := dk_44 (dk_at dksJ7_compress_2_1 11 rfl rfl)
theorem dJ7_compress_2_36 : decode cJ7_compress_2 36 = .ok (.iload_n 3, 1) := dk_29 (dk_at dksJ7_compress_2_1 12 rfl rfl)
theorem dJ7_compress_2_37 : decode cJ7_compress_2 37 = .ok (.iload 6, 2) := dk_21 6 (dk_at dksJ7_compress_2_1 13 rfl rfl)
theorem dJ7_compress_2_39 : decode cJ7_compress_2 39 = .ok (.i2b, 1) := dk_145 (dk_at dksJ7_compress_2_1 15 rfl rfl)
theorem dJ7_compress_2_40 : decode cJ7_compress_2 40 = .ok (.bastore, 1) := dk_84 (dk_at dksJ7_compress_2_1 16 rfl rfl)
theorem dJ7_compress_2_41 : decode cJ7_compress_2 41 = .ok (.iinc 1 1, 3) := dk_132 1 1 (dk_at dksJ7_compress_2_1 17 rfl rfl)
theorem dJ7_compress_2_44 : decode cJ7_compress_2 44 = .ok (.iinc 3 1, 3) := dk_132 3 1 (dk_at dksJ7_compress_2_1 20 rfl rfl)
theorem dJ7_compress_2_47 : decode cJ7_compress_2 47 = .ok (.iinc 5 1, 3) := dk_132 5 1 (dk_at dksJ7_compress_2_2 0 rfl rfl)
theorem dJ7_compress_2_50 : decode cJ7_compress_2 50 = .ok (.goto (-40), 3) := dk_167 255 216 (dk_at dksJ7_compress_2_2 3 rfl rfl)
theorem dJ7_compress_2_53 : decode cJ7_compress_2 53 = .ok (.iload 4, 2) := dk_21 4 (dk_at dksJ7_compress_2_2 6 rfl rfl)
theorem dJ7_compress_2_55 : decode cJ7_compress_2 55 = .ok (.ireturn, 1) := dk_172 (dk_at dksJ7_compress_2_2 8 rfl rfl)
abbrev cJ7_getChar : ByteArray := prog_43_method_5_code
def yJ7_getChar : MethodName := ⟨RJ7, "getChar", "([BI)C"⟩
def dkwJ7_getChar_2 : List UInt8 := [51, 17, 0, 255, 126, 178, 0, 63, 120, 128, 146, 172]
abbrev dktJ7_getChar_2 : List UInt8 := dkwJ7_getChar_2 ++ []
def dkwJ7_getChar_1 : List UInt8 := [183, 0, 56, 191, 27, 4, 120, 60, 42, 27, 132, 1, 1, 51, 17, 0, 255, 126, 178, 0, 59, 120, 42, 27]
abbrev dktJ7_getChar_1 : List UInt8 := dkwJ7_getChar_1 ++ dktJ7_getChar_2
def dkwJ7_getChar_0 : List UInt8 := [178, 0, 44, 154, 0, 25, 27, 155, 0, 11, 27, 42, 184, 0, 48, 161, 0, 13, 187, 0, 52, 89, 18, 54]
abbrev dktJ7_getChar_0 : List UInt8 := dkwJ7_getChar_0 ++ dktJ7_getChar_1
theorem dksJ7_getChar_0 : cJ7_getChar.data.toList.drop 0 = dktJ7_getChar_0 := by decide +kernel
theorem dksJ7_getChar_1 : cJ7_getChar.data.toList.drop 24 = dktJ7_getChar_1 := dk_seg dksJ7_getChar_0 24 rfl rfl
theorem dksJ7_getChar_2 : cJ7_getChar.data.toList.drop 48 = dktJ7_getChar_2 := dk_seg dksJ7_getChar_1 24 rfl rfl
theorem dJ7_getChar_0 : decode cJ7_getChar 0 = .ok (.getstatic 44, 3) := dk_178 0 44 (dk_at dksJ7_getChar_0 0 rfl rfl)
theorem dJ7_getChar_3 : decode cJ7_getChar 3 = .ok (.ifCond .ne 25, 3) := dk_154 0 25 (dk_at dksJ7_getChar_0 3 rfl rfl)
theorem dJ7_getChar_6 : decode cJ7_getChar 6 = .ok (.iload_n 1, 1) := dk_27 (dk_at dksJ7_getChar_0 6 rfl rfl)
theorem dJ7_getChar_7 : decode cJ7_getChar 7 = .ok (.ifCond .lt 11, 3) := dk_155 0 11 (dk_at dksJ7_getChar_0 7 rfl rfl)
theorem dJ7_getChar_10 : decode cJ7_getChar 10 = .ok (.iload_n 1, 1) := dk_27 (dk_at dksJ7_getChar_0 10 rfl rfl)
theorem dJ7_getChar_11 : decode cJ7_getChar 11 = .ok (.aload_n 0, 1) := dk_42 (dk_at dksJ7_getChar_0 11 rfl rfl)
theorem dJ7_getChar_12 : decode cJ7_getChar 12 = .ok (.invokestatic 48, 3) := dk_184 0 48 (dk_at dksJ7_getChar_0 12 rfl rfl)
theorem dJ7_getChar_15 : decode cJ7_getChar 15 = .ok (.if_icmp .lt 13, 3) := dk_161 0 13 (dk_at dksJ7_getChar_0 15 rfl rfl)
theorem dJ7_getChar_18 : decode cJ7_getChar 18 = .ok (.new 52, 3) := dk_187 0 52 (dk_at dksJ7_getChar_0 18 rfl rfl)
theorem dJ7_getChar_21 : decode cJ7_getChar 21 = .ok (.dup, 1) := dk_89 (dk_at dksJ7_getChar_0 21 rfl rfl)
theorem dJ7_getChar_22 : decode cJ7_getChar 22 = .ok (.ldc 54, 2) := dk_18 54 (dk_at dksJ7_getChar_0 22 rfl rfl)
theorem dJ7_getChar_24 : decode cJ7_getChar 24 = .ok (.invokespecial 56, 3) := dk_183 0 56 (dk_at dksJ7_getChar_1 0 rfl rfl)
theorem dJ7_getChar_27 : decode cJ7_getChar 27 = .ok (.athrow, 1) := dk_191 (dk_at dksJ7_getChar_1 3 rfl rfl)
theorem dJ7_getChar_28 : decode cJ7_getChar 28 = .ok (.iload_n 1, 1) := dk_27 (dk_at dksJ7_getChar_1 4 rfl rfl)
theorem dJ7_getChar_29 : decode cJ7_getChar 29 = .ok (.iconst 1, 1) := dk_4 (dk_at dksJ7_getChar_1 5 rfl rfl)
theorem dJ7_getChar_30 : decode cJ7_getChar 30 = .ok (.ishl, 1) := dk_120 (dk_at dksJ7_getChar_1 6 rfl rfl)
theorem dJ7_getChar_31 : decode cJ7_getChar 31 = .ok (.istore_n 1, 1) := dk_60 (dk_at dksJ7_getChar_1 7 rfl rfl)
theorem dJ7_getChar_32 : decode cJ7_getChar 32 = .ok (.aload_n 0, 1) := dk_42 (dk_at dksJ7_getChar_1 8 rfl rfl)
theorem dJ7_getChar_33 : decode cJ7_getChar 33 = .ok (.iload_n 1, 1) := dk_27 (dk_at dksJ7_getChar_1 9 rfl rfl)
theorem dJ7_getChar_34 : decode cJ7_getChar 34 = .ok (.iinc 1 1, 3) := dk_132 1 1 (dk_at dksJ7_getChar_1 10 rfl rfl)
theorem dJ7_getChar_37 : decode cJ7_getChar 37 = .ok (.baload, 1) := dk_51 (dk_at dksJ7_getChar_1 13 rfl rfl)
theorem dJ7_getChar_38 : decode cJ7_getChar 38 = .ok (.sipush 255, 3) := dk_17 0 255 (dk_at dksJ7_getChar_1 14 rfl rfl)
theorem dJ7_getChar_41 : decode cJ7_getChar 41 = .ok (.iand, 1) := dk_126 (dk_at dksJ7_getChar_1 17 rfl rfl)
theorem dJ7_getChar_42 : decode cJ7_getChar 42 = .ok (.getstatic 59, 3) := dk_178 0 59 (dk_at dksJ7_getChar_1 18 rfl rfl)
theorem dJ7_getChar_45 : decode cJ7_getChar 45 = .ok (.ishl, 1) := dk_120 (dk_at dksJ7_getChar_1 21 rfl rfl)
theorem dJ7_getChar_46 : decode cJ7_getChar 46 = .ok (.aload_n 0, 1) := dk_42 (dk_at dksJ7_getChar_1 22 rfl rfl)
theorem dJ7_getChar_47 : decode cJ7_getChar 47 = .ok (.iload_n 1, 1) := dk_27 (dk_at dksJ7_getChar_1 23 rfl rfl)
theorem dJ7_getChar_48 : decode cJ7_getChar 48 = .ok (.baload, 1) := dk_51 (dk_at dksJ7_getChar_2 0 rfl rfl)
theorem dJ7_getChar_49 : decode cJ7_getChar 49 = .ok (.sipush 255, 3) := dk_17 0 255 (dk_at dksJ7_getChar_2 1 rfl rfl)
theorem dJ7_getChar_52 : decode cJ7_getChar 52 = .ok (.iand, 1) := dk_126 (dk_at dksJ7_getChar_2 4 rfl rfl)
theorem dJ7_getChar_53 : decode cJ7_getChar 53 = .ok (.getstatic 63, 3) := dk_178 0 63 (dk_at dksJ7_getChar_2 5 rfl rfl)
theorem dJ7_getChar_56 : decode cJ7_getChar 56 = .ok (.ishl, 1) := dk_120 (dk_at dksJ7_getChar_2 8 rfl rfl)
theorem dJ7_getChar_57 : decode cJ7_getChar 57 = .ok (.ior, 1) := dk_128 (dk_at dksJ7_getChar_2 9 rfl rfl)
theorem dJ7_getChar_58 : decode cJ7_getChar 58 = .ok (.i2c, 1) := dk_146 (dk_at dksJ7_getChar_2 10 rfl rfl)
theorem dJ7_getChar_59 : decode cJ7_getChar 59 = .ok (.ireturn, 1) := dk_172 (dk_at dksJ7_getChar_2 11 rfl rfl)
abbrev cJ7_coderFromArrayLen : ByteArray := prog_43_method_15_code
def yJ7_coderFromArrayLen : MethodName := ⟨RJ7, "coderFromArrayLen", "([BI)B"⟩
def dkwJ7_coderFromArrayLen_0 : List UInt8 := [27, 42, 190, 100, 16, 31, 124, 145, 172]
abbrev dktJ7_coderFromArrayLen_0 : List UInt8 := dkwJ7_coderFromArrayLen_0 ++ []
theorem dksJ7_coderFromArrayLen_0 : cJ7_coderFromArrayLen.data.toList.drop 0 = dktJ7_coderFromArrayLen_0 := by decide +kernel
theorem dJ7_coderFromArrayLen_0 : decode cJ7_coderFromArrayLen 0 = .ok (.iload_n 1, 1) := dk_27 (dk_at dksJ7_coderFromArrayLen_0 0 rfl rfl)
theorem dJ7_coderFromArrayLen_1 : decode cJ7_coderFromArrayLen 1 = .ok (.aload_n 0, 1) := dk_42 (dk_at dksJ7_coderFromArrayLen_0 1 rfl rfl)
theorem dJ7_coderFromArrayLen_2 : decode cJ7_coderFromArrayLen 2 = .ok (.arraylength, 1) := dk_190 (dk_at dksJ7_coderFromArrayLen_0 2 rfl rfl)
theorem dJ7_coderFromArrayLen_3 : decode cJ7_coderFromArrayLen 3 = .ok (.isub, 1) := dk_100 (dk_at dksJ7_coderFromArrayLen_0 3 rfl rfl)
theorem dJ7_coderFromArrayLen_4 : decode cJ7_coderFromArrayLen 4 = .ok (.bipush 31, 2) := dk_16 31 (dk_at dksJ7_coderFromArrayLen_0 4 rfl rfl)
theorem dJ7_coderFromArrayLen_6 : decode cJ7_coderFromArrayLen 6 = .ok (.iushr, 1) := dk_124 (dk_at dksJ7_coderFromArrayLen_0 6 rfl rfl)
theorem dJ7_coderFromArrayLen_7 : decode cJ7_coderFromArrayLen 7 = .ok (.i2b, 1) := dk_145 (dk_at dksJ7_coderFromArrayLen_0 7 rfl rfl)
theorem dJ7_coderFromArrayLen_8 : decode cJ7_coderFromArrayLen 8 = .ok (.ireturn, 1) := dk_172 (dk_at dksJ7_coderFromArrayLen_0 8 rfl rfl)
abbrev cJ7_charAt : ByteArray := prog_43_method_83_code
def yJ7_charAt : MethodName := ⟨RJ7, "charAt", "([BI)C"⟩
def dkwJ7_charAt_0 : List UInt8 := [27, 42, 184, 0, 67, 42, 27, 184, 0, 71, 172]
abbrev dktJ7_charAt_0 : List UInt8 := dkwJ7_charAt_0 ++ []
theorem dksJ7_charAt_0 : cJ7_charAt.data.toList.drop 0 = dktJ7_charAt_0 := by decide +kernel
theorem dJ7_charAt_0 : decode cJ7_charAt 0 = .ok (.iload_n 1, 1) := dk_27 (dk_at dksJ7_charAt_0 0 rfl rfl)
theorem dJ7_charAt_1 : decode cJ7_charAt 1 = .ok (.aload_n 0, 1) := dk_42 (dk_at dksJ7_charAt_0 1 rfl rfl)
theorem dJ7_charAt_2 : decode cJ7_charAt 2 = .ok (.invokestatic 67, 3) := dk_184 0 67 (dk_at dksJ7_charAt_0 2 rfl rfl)
theorem dJ7_charAt_5 : decode cJ7_charAt 5 = .ok (.aload_n 0, 1) := dk_42 (dk_at dksJ7_charAt_0 5 rfl rfl)
theorem dJ7_charAt_6 : decode cJ7_charAt 6 = .ok (.iload_n 1, 1) := dk_27 (dk_at dksJ7_charAt_0 6 rfl rfl)
theorem dJ7_charAt_7 : decode cJ7_charAt 7 = .ok (.invokestatic 71, 3) := dk_184 0 71 (dk_at dksJ7_charAt_0 7 rfl rfl)
theorem dJ7_charAt_10 : decode cJ7_charAt 10 = .ok (.ireturn, 1) := dk_172 (dk_at dksJ7_charAt_0 10 rfl rfl)
abbrev cJ7_newString : ByteArray := prog_43_method_69_code
def yJ7_newString : MethodName := ⟨RJ7, "newString", "([BII)Ljava/lang/String;"⟩
def dkwJ7_newString_2 : List UInt8 := [42, 27, 4, 120, 29, 4, 120, 184, 0, 126, 4, 183, 1, 7, 176]
abbrev dktJ7_newString_2 : List UInt8 := dkwJ7_newString_2 ++ []
def dkwJ7_newString_1 : List UInt8 := [184, 1, 3, 54, 4, 187, 0, 3, 89, 45, 21, 4, 183, 1, 7, 176, 27, 28, 96, 62, 187, 0, 3, 89]
abbrev dktJ7_newString_1 : List UInt8 := dkwJ7_newString_1 ++ dktJ7_newString_2
def dkwJ7_newString_0 : List UInt8 := [28, 154, 0, 7, 19, 1, 39, 176, 178, 0, 251, 153, 0, 28, 42, 27, 28, 184, 1, 1, 78, 45, 28]
abbrev dktJ7_newString_0 : List UInt8 := dkwJ7_newString_0 ++ dktJ7_newString_1
theorem dksJ7_newString_0 : cJ7_newString.data.toList.drop 0 = dktJ7_newString_0 := by decide +kernel
theorem dksJ7_newString_1 : cJ7_newString.data.toList.drop 23 = dktJ7_newString_1 := dk_seg dksJ7_newString_0 23 rfl rfl
theorem dksJ7_newString_2 : cJ7_newString.data.toList.drop 47 = dktJ7_newString_2 := dk_seg dksJ7_newString_1 24 rfl rfl
theorem dJ7_newString_0 : decode cJ7_newString 0 = .ok (.iload_n 2, 1) := dk_28 (dk_at dksJ7_newString_0 0 rfl rfl)
theorem dJ7_newString_1 : decode cJ7_newString 1 = .ok (.ifCond .ne 7, 3) := dk_154 0 7 (dk_at dksJ7_newString_0 1 rfl rfl)
theorem dJ7_newString_4 : decode cJ7_newString 4 = .ok (.ldc_w 295, 3) := dk_19 1 39 (dk_at dksJ7_newString_0 4 rfl rfl)
theorem dJ7_newString_7 : decode cJ7_newString 7 = .ok (.areturn, 1) := dk_176 (dk_at dksJ7_newString_0 7 rfl rfl)
theorem dJ7_newString_8 : decode cJ7_newString 8 = .ok (.getstatic 251, 3) := dk_178 0 251 (dk_at dksJ7_newString_0 8 rfl rfl)
theorem dJ7_newString_11 : decode cJ7_newString 11 = .ok (.ifCond .eq 28, 3) := dk_153 0 28 (dk_at dksJ7_newString_0 11 rfl rfl)
theorem dJ7_newString_14 : decode cJ7_newString 14 = .ok (.aload_n 0, 1) := dk_42 (dk_at dksJ7_newString_0 14 rfl rfl)
theorem dJ7_newString_15 : decode cJ7_newString 15 = .ok (.iload_n 1, 1) := dk_27 (dk_at dksJ7_newString_0 15 rfl rfl)
theorem dJ7_newString_16 : decode cJ7_newString 16 = .ok (.iload_n 2, 1) := dk_28 (dk_at dksJ7_newString_0 16 rfl rfl)
theorem dJ7_newString_17 : decode cJ7_newString 17 = .ok (.invokestatic 257, 3) := dk_184 1 1 (dk_at dksJ7_newString_0 17 rfl rfl)
theorem dJ7_newString_20 : decode cJ7_newString 20 = .ok (.astore_n 3, 1) := dk_78 (dk_at dksJ7_newString_0 20 rfl rfl)
theorem dJ7_newString_21 : decode cJ7_newString 21 = .ok (.aload_n 3, 1) := dk_45 (dk_at dksJ7_newString_0 21 rfl rfl)
theorem dJ7_newString_22 : decode cJ7_newString 22 = .ok (.iload_n 2, 1) := dk_28 (dk_at dksJ7_newString_0 22 rfl rfl)
theorem dJ7_newString_23 : decode cJ7_newString 23 = .ok (.invokestatic 259, 3) := dk_184 1 3 (dk_at dksJ7_newString_1 0 rfl rfl)
theorem dJ7_newString_26 : decode cJ7_newString 26 = .ok (.istore 4, 2) := dk_54 4 (dk_at dksJ7_newString_1 3 rfl rfl)
theorem dJ7_newString_28 : decode cJ7_newString 28 = .ok (.new 3, 3) := dk_187 0 3 (dk_at dksJ7_newString_1 5 rfl rfl)
theorem dJ7_newString_31 : decode cJ7_newString 31 = .ok (.dup, 1) := dk_89 (dk_at dksJ7_newString_1 8 rfl rfl)
theorem dJ7_newString_32 : decode cJ7_newString 32 = .ok (.aload_n 3, 1) := dk_45 (dk_at dksJ7_newString_1 9 rfl rfl)
theorem dJ7_newString_33 : decode cJ7_newString 33 = .ok (.iload 4, 2) := dk_21 4 (dk_at dksJ7_newString_1 10 rfl rfl)
theorem dJ7_newString_35 : decode cJ7_newString 35 = .ok (.invokespecial 263, 3) := dk_183 1 7 (dk_at dksJ7_newString_1 12 rfl rfl)
theorem dJ7_newString_38 : decode cJ7_newString 38 = .ok (.areturn, 1) := dk_176 (dk_at dksJ7_newString_1 15 rfl rfl)
theorem dJ7_newString_39 : decode cJ7_newString 39 = .ok (.iload_n 1, 1) := dk_27 (dk_at dksJ7_newString_1 16 rfl rfl)
theorem dJ7_newString_40 : decode cJ7_newString 40 = .ok (.iload_n 2, 1) := dk_28 (dk_at dksJ7_newString_1 17 rfl rfl)
theorem dJ7_newString_41 : decode cJ7_newString 41 = .ok (.iadd, 1) := dk_96 (dk_at dksJ7_newString_1 18 rfl rfl)
theorem dJ7_newString_42 : decode cJ7_newString 42 = .ok (.istore_n 3, 1) := dk_62 (dk_at dksJ7_newString_1 19 rfl rfl)
theorem dJ7_newString_43 : decode cJ7_newString 43 = .ok (.new 3, 3) := dk_187 0 3 (dk_at dksJ7_newString_1 20 rfl rfl)
theorem dJ7_newString_46 : decode cJ7_newString 46 = .ok (.dup, 1) := dk_89 (dk_at dksJ7_newString_1 23 rfl rfl)
theorem dJ7_newString_47 : decode cJ7_newString 47 = .ok (.aload_n 0, 1) := dk_42 (dk_at dksJ7_newString_2 0 rfl rfl)
theorem dJ7_newString_48 : decode cJ7_newString 48 = .ok (.iload_n 1, 1) := dk_27 (dk_at dksJ7_newString_2 1 rfl rfl)
theorem dJ7_newString_49 : decode cJ7_newString 49 = .ok (.iconst 1, 1) := dk_4 (dk_at dksJ7_newString_2 2 rfl rfl)
theorem dJ7_newString_50 : decode cJ7_newString 50 = .ok (.ishl, 1) := dk_120 (dk_at dksJ7_newString_2 3 rfl rfl)
theorem dJ7_newString_51 : decode cJ7_newString 51 = .ok (.iload_n 3, 1) := dk_29 (dk_at dksJ7_newString_2 4 rfl rfl)
theorem dJ7_newString_52 : decode cJ7_newString 52 = .ok (.iconst 1, 1) := dk_4 (dk_at dksJ7_newString_2 5 rfl rfl)
theorem dJ7_newString_53 : decode cJ7_newString 53 = .ok (.ishl, 1) := dk_120 (dk_at dksJ7_newString_2 6 rfl rfl)
theorem dJ7_newString_54 : decode cJ7_newString 54 = .ok (.invokestatic 126, 3) := dk_184 0 126 (dk_at dksJ7_newString_2 7 rfl rfl)
theorem dJ7_newString_57 : decode cJ7_newString 57 = .ok (.iconst 1, 1) := dk_4 (dk_at dksJ7_newString_2 10 rfl rfl)
theorem dJ7_newString_58 : decode cJ7_newString 58 = .ok (.invokespecial 263, 3) := dk_183 1 7 (dk_at dksJ7_newString_2 11 rfl rfl)
theorem dJ7_newString_61 : decode cJ7_newString 61 = .ok (.areturn, 1) := dk_176 (dk_at dksJ7_newString_2 14 rfl rfl)
abbrev cJ7_putCharsAt : ByteArray := prog_43_method_81_code
def yJ7_putCharsAt : MethodName := ⟨RJ7, "putCharsAt", "([BICCCC)I"⟩
def dkwJ7_putCharsAt_3 : List UInt8 := [21, 6, 172]
abbrev dktJ7_putCharsAt_3 : List UInt8 := dkwJ7_putCharsAt_3 ++ []
def dkwJ7_putCharsAt_2 : List UInt8 := [184, 0, 111, 178, 0, 44, 154, 0, 17, 27, 21, 6, 159, 0, 11, 187, 0, 52, 89, 183, 0, 66, 191]
abbrev dktJ7_putCharsAt_2 : List UInt8 := dkwJ7_putCharsAt_2 ++ dktJ7_putCharsAt_3
def dkwJ7_putCharsAt_1 : List UInt8 := [132, 1, 1, 29, 184, 0, 111, 42, 27, 132, 1, 1, 21, 4, 184, 0, 111, 42, 27, 132, 1, 1, 21, 5]
abbrev dktJ7_putCharsAt_1 : List UInt8 := dkwJ7_putCharsAt_1 ++ dktJ7_putCharsAt_2
def dkwJ7_putCharsAt_0 : List UInt8 := [27, 7, 96, 54, 6, 27, 21, 6, 42, 184, 0, 96, 42, 27, 132, 1, 1, 28, 184, 0, 111, 42, 27]
abbrev dktJ7_putCharsAt_0 : List UInt8 := dkwJ7_putCharsAt_0 ++ dktJ7_putCharsAt_1
theorem dksJ7_putCharsAt_0 : cJ7_putCharsAt.data.toList.drop 0 = dktJ7_putCharsAt_0 := by decide +kernel
theorem dksJ7_putCharsAt_1 : cJ7_putCharsAt.data.toList.drop 23 = dktJ7_putCharsAt_1 := dk_seg dksJ7_putCharsAt_0 23 rfl rfl
theorem dksJ7_putCharsAt_2 : cJ7_putCharsAt.data.toList.drop 47 = dktJ7_putCharsAt_2 := dk_seg dksJ7_putCharsAt_1 24 rfl rfl
theorem dksJ7_putCharsAt_3 : cJ7_putCharsAt.data.toList.drop 70 = dktJ7_putCharsAt_3 := dk_seg dksJ7_putCharsAt_2 23 rfl rfl
theorem dJ7_putCharsAt_0 : decode cJ7_putCharsAt 0 = .ok (.iload_n 1, 1) := dk_27 (dk_at dksJ7_putCharsAt_0 0 rfl rfl)
theorem dJ7_putCharsAt_1 : decode cJ7_putCharsAt 1 = .ok (.iconst 4, 1) := dk_7 (dk_at dksJ7_putCharsAt_0 1 rfl rfl)
theorem dJ7_putCharsAt_2 : decode cJ7_putCharsAt 2 = .ok (.iadd, 1) := dk_96 (dk_at dksJ7_putCharsAt_0 2 rfl rfl)
theorem dJ7_putCharsAt_3 : decode cJ7_putCharsAt 3 = .ok (.istore 6, 2) := dk_54 6 (dk_at dksJ7_putCharsAt_0 3 rfl rfl)
theorem dJ7_putCharsAt_5 : decode cJ7_putCharsAt 5 = .ok (.iload_n 1, 1) := dk_27 (dk_at dksJ7_putCharsAt_0 5 rfl rfl)
theorem dJ7_putCharsAt_6 : decode cJ7_putCharsAt 6 = .ok (.iload 6, 2) := dk_21 6 (dk_at dksJ7_putCharsAt_0 6 rfl rfl)
theorem dJ7_putCharsAt_8 : decode cJ7_putCharsAt 8 = .ok (.aload_n 0, 1) := dk_42 (dk_at dksJ7_putCharsAt_0 8 rfl rfl)
theorem dJ7_putCharsAt_9 : decode cJ7_putCharsAt 9 = .ok (.invokestatic 96, 3) := dk_184 0 96 (dk_at dksJ7_putCharsAt_0 9 rfl rfl)
theorem dJ7_putCharsAt_12 : decode cJ7_putCharsAt 12 = .ok (.aload_n 0, 1) := dk_42 (dk_at dksJ7_putCharsAt_0 12 rfl rfl)
theorem dJ7_putCharsAt_13 : decode cJ7_putCharsAt 13 = .ok (.iload_n 1, 1) := dk_27 (dk_at dksJ7_putCharsAt_0 13 rfl rfl)
theorem dJ7_putCharsAt_14 : decode cJ7_putCharsAt 14 = .ok (.iinc 1 1, 3) := dk_132 1 1 (dk_at dksJ7_putCharsAt_0 14 rfl rfl)
theorem dJ7_putCharsAt_17 : decode cJ7_putCharsAt 17 = .ok (.iload_n 2, 1) := dk_28 (dk_at dksJ7_putCharsAt_0 17 rfl rfl)
theorem dJ7_putCharsAt_18 : decode cJ7_putCharsAt 18 = .ok (.invokestatic 111, 3) := dk_184 0 111 (dk_at dksJ7_putCharsAt_0 18 rfl rfl)
theorem dJ7_putCharsAt_21 : decode cJ7_putCharsAt 21 = .ok (.aload_n 0, 1) := dk_42 (dk_at dksJ7_putCharsAt_0 21 rfl rfl)
theorem dJ7_putCharsAt_22 : decode cJ7_putCharsAt 22 = .ok (.iload_n 1, 1) := dk_27 (dk_at dksJ7_putCharsAt_0 22 rfl rfl)
theorem dJ7_putCharsAt_23 : decode cJ7_putCharsAt 23 = .ok (.iinc 1 1, 3) := dk_132 1 1 (dk_at dksJ7_putCharsAt_1 0 rfl rfl)
theorem dJ7_putCharsAt_26 : decode cJ7_putCharsAt 26 = .ok (.iload_n 3, 1) := dk_29 (dk_at dksJ7_putCharsAt_1 3 rfl rfl)
theorem dJ7_putCharsAt_27 : decode cJ7_putCharsAt 27 = .ok (.invokestatic 111, 3) := dk_184 0 111 (dk_at dksJ7_putCharsAt_1 4 rfl rfl)
theorem dJ7_putCharsAt_30 : decode cJ7_putCharsAt 30 = .ok (.aload_n 0, 1) := dk_42 (dk_at dksJ7_putCharsAt_1 7 rfl rfl)
theorem dJ7_putCharsAt_31 : decode cJ7_putCharsAt 31 = .ok (.iload_n 1, 1) := dk_27 (dk_at dksJ7_putCharsAt_1 8 rfl rfl)
theorem dJ7_putCharsAt_32 : decode cJ7_putCharsAt 32 = .ok (.iinc 1 1, 3) := dk_132 1 1 (dk_at dksJ7_putCharsAt_1 9 rfl rfl)
theorem dJ7_putCharsAt_35 : decode cJ7_putCharsAt 35 = .ok (.iload 4, 2) := dk_21 4 (dk_at dksJ7_putCharsAt_1 12 rfl rfl)
theorem dJ7_putCharsAt_37 : decode cJ7_putCharsAt 37 = .ok (.invokestatic 111, 3) := dk_184 0 111 (dk_at dksJ7_putCharsAt_1 14 rfl rfl)
theorem dJ7_putCharsAt_40 : decode cJ7_putCharsAt 40 = .ok (.aload_n 0, 1) := dk_42 (dk_at dksJ7_putCharsAt_1 17 rfl rfl)
theorem dJ7_putCharsAt_41 : decode cJ7_putCharsAt 41 = .ok (.iload_n 1, 1) := dk_27 (dk_at dksJ7_putCharsAt_1 18 rfl rfl)
theorem dJ7_putCharsAt_42 : decode cJ7_putCharsAt 42 = .ok (.iinc 1 1, 3) := dk_132 1 1 (dk_at dksJ7_putCharsAt_1 19 rfl rfl)
theorem dJ7_putCharsAt_45 : decode cJ7_putCharsAt 45 = .ok (.iload 5, 2) := dk_21 5 (dk_at dksJ7_putCharsAt_1 22 rfl rfl)
theorem dJ7_putCharsAt_47 : decode cJ7_putCharsAt 47 = .ok (.invokestatic 111, 3) := dk_184 0 111 (dk_at dksJ7_putCharsAt_2 0 rfl rfl)
theorem dJ7_putCharsAt_50 : decode cJ7_putCharsAt 50 = .ok (.getstatic 44, 3) := dk_178 0 44 (dk_at dksJ7_putCharsAt_2 3 rfl rfl)
theorem dJ7_putCharsAt_53 : decode cJ7_putCharsAt 53 = .ok (.ifCond .ne 17, 3) := dk_154 0 17 (dk_at dksJ7_putCharsAt_2 6 rfl rfl)
theorem dJ7_putCharsAt_56 : decode cJ7_putCharsAt 56 = .ok (.iload_n 1, 1) := dk_27 (dk_at dksJ7_putCharsAt_2 9 rfl rfl)
theorem dJ7_putCharsAt_57 : decode cJ7_putCharsAt 57 = .ok (.iload 6, 2) := dk_21 6 (dk_at dksJ7_putCharsAt_2 10 rfl rfl)
theorem dJ7_putCharsAt_59 : decode cJ7_putCharsAt 59 = .ok (.if_icmp .eq 11, 3) := dk_159 0 11 (dk_at dksJ7_putCharsAt_2 12 rfl rfl)
theorem dJ7_putCharsAt_62 : decode cJ7_putCharsAt 62 = .ok (.new 52, 3) := dk_187 0 52 (dk_at dksJ7_putCharsAt_2 15 rfl rfl)
theorem dJ7_putCharsAt_65 : decode cJ7_putCharsAt 65 = .ok (.dup, 1) := dk_89 (dk_at dksJ7_putCharsAt_2 18 rfl rfl)
theorem dJ7_putCharsAt_66 : decode cJ7_putCharsAt 66 = .ok (.invokespecial 66, 3) := dk_183 0 66 (dk_at dksJ7_putCharsAt_2 19 rfl rfl)
theorem dJ7_putCharsAt_69 : decode cJ7_putCharsAt 69 = .ok (.athrow, 1) := dk_191 (dk_at dksJ7_putCharsAt_2 22 rfl rfl)
theorem dJ7_putCharsAt_70 : decode cJ7_putCharsAt 70 = .ok (.iload 6, 2) := dk_21 6 (dk_at dksJ7_putCharsAt_3 0 rfl rfl)
theorem dJ7_putCharsAt_72 : decode cJ7_putCharsAt 72 = .ok (.ireturn, 1) := dk_172 (dk_at dksJ7_putCharsAt_3 2 rfl rfl)
abbrev cJ7_checkBoundsBeginEnd : ByteArray := prog_43_method_93_code
def yJ7_checkBoundsBeginEnd : MethodName := ⟨RJ7, "checkBoundsBeginEnd", "(II[B)V"⟩
def dkwJ7_checkBoundsBeginEnd_0 : List UInt8 := [26, 27, 44, 184, 0, 48, 184, 0, 241, 177]
abbrev dktJ7_checkBoundsBeginEnd_0 : List UInt8 := dkwJ7_checkBoundsBeginEnd_0 ++ []
theorem dksJ7_checkBoundsBeginEnd_0 : cJ7_checkBoundsBeginEnd.data.toList.drop 0 = dktJ7_checkBoundsBeginEnd_0 := by decide +kernel
theorem dJ7_checkBoundsBeginEnd_0 : decode cJ7_checkBoundsBeginEnd 0 = .ok (.iload_n 0, 1) := dk_26 (dk_at dksJ7_checkBoundsBeginEnd_0 0 rfl rfl)
theorem dJ7_checkBoundsBeginEnd_1 : decode cJ7_checkBoundsBeginEnd 1 = .ok (.iload_n 1, 1) := dk_27 (dk_at dksJ7_checkBoundsBeginEnd_0 1 rfl rfl)
theorem dJ7_checkBoundsBeginEnd_2 : decode cJ7_checkBoundsBeginEnd 2 = .ok (.aload_n 2, 1) := dk_44 (dk_at dksJ7_checkBoundsBeginEnd_0 2 rfl rfl)
theorem dJ7_checkBoundsBeginEnd_3 : decode cJ7_checkBoundsBeginEnd 3 = .ok (.invokestatic 48, 3) := dk_184 0 48 (dk_at dksJ7_checkBoundsBeginEnd_0 3 rfl rfl)
theorem dJ7_checkBoundsBeginEnd_6 : decode cJ7_checkBoundsBeginEnd 6 = .ok (.invokestatic 241, 3) := dk_184 0 241 (dk_at dksJ7_checkBoundsBeginEnd_0 6 rfl rfl)
theorem dJ7_checkBoundsBeginEnd_9 : decode cJ7_checkBoundsBeginEnd 9 = .ok (.return_, 1) := dk_177 (dk_at dksJ7_checkBoundsBeginEnd_0 9 rfl rfl)
theorem q139 : (Jvm.Cond.initialized "java/lang/StringUTF16") ∈ lw_all := lw_g (lw_at lw_m1 14 rfl) rfl
theorem q326 : (Jvm.Cond.static ({ cls := "java/lang/StringUTF16", name := "newBytesFor", desc := "(I)[B" } : Jvm.MethodName)) ∈ lw_all := lw_g (lw_at lw_m1 201 rfl) rfl
theorem q327 : (Jvm.Cond.code ({ cls := "java/lang/StringUTF16", name := "newBytesFor", desc := "(I)[B" } : Jvm.MethodName) prog_43_method_2_code (1 : Nat) (Option.some (Jvm.ClassFile.FieldType.array Jvm.ClassFile.FieldType.byte))) ∈ lw_all := lw_g (lw_at lw_m1 202 rfl) rfl
theorem q328 : (Jvm.Cond.methodLink "java/lang/StringUTF16" (11 : Nat) ({ cls := "java/lang/StringUTF16", name := "newBytesLength", desc := "(I)I" } : Jvm.MethodName)) ∈ lw_all := lw_g (lw_at lw_m1 203 rfl) rfl
theorem q329 : (Jvm.Cond.static ({ cls := "java/lang/StringUTF16", name := "newBytesLength", desc := "(I)I" } : Jvm.MethodName)) ∈ lw_all := lw_g (lw_at lw_m1 204 rfl) rfl
theorem q330 : (Jvm.Cond.code ({ cls := "java/lang/StringUTF16", name := "newBytesLength", desc := "(I)I" } : Jvm.MethodName) prog_43_method_3_code (1 : Nat) (Option.some Jvm.ClassFile.FieldType.int)) ∈ lw_all := lw_g (lw_at lw_m1 205 rfl) rfl
theorem q331 : (Jvm.Cond.constant "java/lang/StringUTF16" (20 : Nat) (1073741823 : Int32)) ∈ lw_all := lw_g (lw_at lw_m1 206 rfl) rfl
theorem q410 : (Jvm.Cond.static ({ cls := "java/lang/StringUTF16", name := "inflate", desc := "([BI[BII)V" } : Jvm.MethodName)) ∈ lw_all := lw_g (lw_at lw_m2 45 rfl) rfl
theorem q411 : (Jvm.Cond.code ({ cls := "java/lang/StringUTF16", name := "inflate", desc := "([BI[BII)V" } : Jvm.MethodName) prog_43_method_86_code (6 : Nat) (Option.none : Option Jvm.ClassFile.FieldType)) ∈ lw_all := lw_g (lw_at lw_m2 46 rfl) rfl
theorem q412 : (Jvm.Cond.methodLink "java/lang/StringUTF16" (173 : Nat) ({ cls := "java/lang/StringUTF16", name := "checkBoundsOffCount", desc := "(II[B)V" } : Jvm.MethodName)) ∈ lw_all := lw_g (lw_at lw_m2 47 rfl) rfl
theorem q413 : (Jvm.Cond.static ({ cls := "java/lang/StringUTF16", name := "checkBoundsOffCount", desc := "(II[B)V" } : Jvm.MethodName)) ∈ lw_all := lw_g (lw_at lw_m2 48 rfl) rfl
theorem q414 : (Jvm.Cond.code ({ cls := "java/lang/StringUTF16", name := "checkBoundsOffCount", desc := "(II[B)V" } : Jvm.MethodName) prog_43_method_94_code (3 : Nat) (Option.none : Option Jvm.ClassFile.FieldType)) ∈ lw_all := lw_g (lw_at lw_m2 49 rfl) rfl
theorem q415 : (Jvm.Cond.methodLink "java/lang/StringUTF16" (48 : Nat) ({ cls := "java/lang/StringUTF16", name := "length", desc := "([B)I" } : Jvm.MethodName)) ∈ lw_all := lw_g (lw_at lw_m2 50 rfl) rfl
theorem q416 : (Jvm.Cond.static ({ cls := "java/lang/StringUTF16", name := "length", desc := "([B)I" } : Jvm.MethodName)) ∈ lw_all := lw_g (lw_at lw_m2 51 rfl) rfl
theorem q417 : (Jvm.Cond.code ({ cls := "java/lang/StringUTF16", name := "length", desc := "([B)I" } : Jvm.MethodName) prog_43_method_6_code (1 : Nat) (Option.some Jvm.ClassFile.FieldType.int)) ∈ lw_all := lw_g (lw_at lw_m2 52 rfl) rfl
theorem q418 : (Jvm.Cond.methodLink "java/lang/StringUTF16" (419 : Nat) ({ cls := "java/lang/String", name := "checkBoundsOffCount", desc := "(III)I" } : Jvm.MethodName)) ∈ lw_all := lw_g (lw_at lw_m2 53 rfl) rfl
theorem q426 : (Jvm.Cond.methodLink "java/lang/StringUTF16" (111 : Nat) ({ cls := "java/lang/StringUTF16", name := "putChar", desc := "([BII)V" } : Jvm.MethodName)) ∈ lw_all := lw_g (lw_at lw_m2 61 rfl) rfl
theorem q427 : (Jvm.Cond.static ({ cls := "java/lang/StringUTF16", name := "putChar", desc := "([BII)V" } : Jvm.MethodName)) ∈ lw_all := lw_g (lw_at lw_m2 62 rfl) rfl
theorem q428 : (Jvm.Cond.code ({ cls := "java/lang/StringUTF16", name := "putChar", desc := "([BII)V" } : Jvm.MethodName) prog_43_method_4_code (3 : Nat) (Option.none : Option Jvm.ClassFile.FieldType)) ∈ lw_all := lw_g (lw_at lw_m2 63 rfl) rfl
theorem q429 : (Jvm.Cond.fieldLink "java/lang/StringUTF16" (44 : Nat) "java/lang/StringUTF16" "$assertionsDisabled" "Z") ∈ lw_all := lw_g (lw_at lw_m2 64 rfl) rfl
theorem q430 : (Jvm.Cond.laysStatic "java/lang/StringUTF16" "$assertionsDisabled" "Z") ∈ lw_tbl := lw_at lw_m2 65 rfl
theorem q431 : (Jvm.Cond.fieldLink "java/lang/StringUTF16" (59 : Nat) "java/lang/StringUTF16" "HI_BYTE_SHIFT" "I") ∈ lw_all := lw_g (lw_at lw_m2 66 rfl) rfl
theorem q432 : (Jvm.Cond.laysStatic "java/lang/StringUTF16" "HI_BYTE_SHIFT" "I") ∈ lw_tbl := lw_at lw_m2 67 rfl
theorem q433 : (Jvm.Cond.fieldLink "java/lang/StringUTF16" (63 : Nat) "java/lang/StringUTF16" "LO_BYTE_SHIFT" "I") ∈ lw_all := lw_g (lw_at lw_m2 68 rfl) rfl
theorem q434 : (Jvm.Cond.laysStatic "java/lang/StringUTF16" "LO_BYTE_SHIFT" "I") ∈ lw_tbl := lw_at lw_m2 69 rfl
theorem q436 : (Jvm.Cond.static ({ cls := "java/lang/StringUTF16", name := "putCharSB", desc := "([BII)V" } : Jvm.MethodName)) ∈ lw_all := lw_g (lw_at lw_m2 71 rfl) rfl
theorem q437 : (Jvm.Cond.code ({ cls := "java/lang/StringUTF16", name := "putCharSB", desc := "([BII)V" } : Jvm.MethodName) prog_43_method_71_code (3 : Nat) (Option.none : Option Jvm.ClassFile.FieldType)) ∈ lw_all := lw_g (lw_at lw_m2 72 rfl) rfl
theorem q438 : (Jvm.Cond.methodLink "java/lang/StringUTF16" (67 : Nat) ({ cls := "java/lang/StringUTF16", name := "checkIndex", desc := "(I[B)V" } : Jvm.MethodName)) ∈ lw_all := lw_g (lw_at lw_m2 73 rfl) rfl
theorem q439 : (Jvm.Cond.static ({ cls := "java/lang/StringUTF16", name := "checkIndex", desc := "(I[B)V" } : Jvm.MethodName)) ∈ lw_all := lw_g (lw_at lw_m2 74 rfl) rfl
theorem q440 : (Jvm.Cond.code ({ cls := "java/lang/StringUTF16", name := "checkIndex", desc := "(I[B)V" } : Jvm.MethodName) prog_43_method_91_code (2 : Nat) (Option.none : Option Jvm.ClassFile.FieldType)) ∈ lw_all := lw_g (lw_at lw_m2 75 rfl) rfl
theorem q441 : (Jvm.Cond.methodLink "java/lang/StringUTF16" (414 : Nat) ({ cls := "java/lang/String", name := "checkIndex", desc := "(II)V" } : Jvm.MethodName)) ∈ lw_all := lw_g (lw_at lw_m2 76 rfl) rfl
theorem q478 : (Jvm.Cond.static ({ cls := "java/lang/StringUTF16", name := "compress", desc := "([BII)[B" } : Jvm.MethodName)) ∈ lw_all := lw_g (lw_at lw_m2 113 rfl) rfl
theorem q479 : (Jvm.Cond.code ({ cls := "java/lang/StringUTF16", name := "compress", desc := "([BII)[B" } : Jvm.MethodName) prog_43_method_17_code (6 : Nat) (Option.some (Jvm.ClassFile.FieldType.array Jvm.ClassFile.FieldType.byte))) ∈ lw_all := lw_g (lw_at lw_m2 114 rfl) rfl
theorem q480 : (Jvm.Cond.methodLink "java/lang/StringUTF16" (123 : Nat) ({ cls := "java/lang/StringUTF16", name := "compress", desc := "([BI[BII)I" } : Jvm.MethodName)) ∈ lw_all := lw_g (lw_at lw_m2 115 rfl) rfl
theorem q481 : (Jvm.Cond.static ({ cls := "java/lang/StringUTF16", name := "compress", desc := "([BI[BII)I" } : Jvm.MethodName)) ∈ lw_all := lw_g (lw_at lw_m2 116 rfl) rfl
theorem q482 : (Jvm.Cond.code ({ cls := "java/lang/StringUTF16", name := "compress", desc := "([BI[BII)I" } : Jvm.MethodName) prog_43_method_22_code (7 : Nat) (Option.some Jvm.ClassFile.FieldType.int)) ∈ lw_all := lw_g (lw_at lw_m2 117 rfl) rfl
theorem q483 : (Jvm.Cond.methodLink "java/lang/StringUTF16" (71 : Nat) ({ cls := "java/lang/StringUTF16", name := "getChar", desc := "([BI)C" } : Jvm.MethodName)) ∈ lw_all := lw_g (lw_at lw_m2 118 rfl) rfl
theorem q484 : (Jvm.Cond.static ({ cls := "java/lang/StringUTF16", name := "getChar", desc := "([BI)C" } : Jvm.MethodName)) ∈ lw_all := lw_g (lw_at lw_m2 119 rfl) rfl
theorem q485 : (Jvm.Cond.code ({ cls := "java/lang/StringUTF16", name := "getChar", desc := "([BI)C" } : Jvm.MethodName) prog_43_method_5_code (2 : Nat) (Option.some Jvm.ClassFile.FieldType.char)) ∈ lw_all := lw_g (lw_at lw_m2 120 rfl) rfl
theorem q486 : (Jvm.Cond.methodLink "java/lang/StringUTF16" (126 : Nat) ({ cls := "java/util/Arrays", name := "copyOfRange", desc := "([BII)[B" } : Jvm.MethodName)) ∈ lw_all := lw_g (lw_at lw_m2 121 rfl) rfl
theorem q488 : (Jvm.Cond.static ({ cls := "java/lang/StringUTF16", name := "coderFromArrayLen", desc := "([BI)B" } : Jvm.MethodName)) ∈ lw_all := lw_g (lw_at lw_m2 123 rfl) rfl
theorem q489 : (Jvm.Cond.code ({ cls := "java/lang/StringUTF16", name := "coderFromArrayLen", desc := "([BI)B" } : Jvm.MethodName) prog_43_method_15_code (2 : Nat) (Option.some Jvm.ClassFile.FieldType.byte)) ∈ lw_all := lw_g (lw_at lw_m2 124 rfl) rfl
theorem q1068 : (Jvm.Cond.static ({ cls := "java/lang/StringUTF16", name := "charAt", desc := "([BI)C" } : Jvm.MethodName)) ∈ lw_all := lw_g (lw_at lw_m4 223 rfl) rfl
theorem q1069 : (Jvm.Cond.code ({ cls := "java/lang/StringUTF16", name := "charAt", desc := "([BI)C" } : Jvm.MethodName) prog_43_method_83_code (2 : Nat) (Option.some Jvm.ClassFile.FieldType.char)) ∈ lw_all := lw_g (lw_at lw_m4 224 rfl) rfl
theorem q1117 : (Jvm.Cond.static ({ cls := "java/lang/StringUTF16", name := "newString", desc := "([BII)Ljava/lang/String;" } : Jvm.MethodName)) ∈ lw_all := lw_g (lw_at lw_m5 32 rfl) rfl
theorem q1118 : (Jvm.Cond.code ({ cls := "java/lang/StringUTF16", name := "newString", desc := "([BII)Ljava/lang/String;" } : Jvm.MethodName) prog_43_method_69_code (5 : Nat) (Option.some (Jvm.ClassFile.FieldType.object "java/lang/String"))) ∈ lw_all := lw_g (lw_at lw_m5 33 rfl) rfl
theorem q1119 : (Jvm.Cond.stringRef "java/lang/StringUTF16" (295 : Nat) "") ∈ lw_tbl := lw_at lw_m5 34 rfl
theorem q1120 : (Jvm.Cond.fieldLink "java/lang/StringUTF16" (251 : Nat) "java/lang/String" "COMPACT_STRINGS" "Z") ∈ lw_all := lw_g (lw_at lw_m5 35 rfl) rfl
theorem q1121 : (Jvm.Cond.methodLink "java/lang/StringUTF16" (257 : Nat) ({ cls := "java/lang/StringUTF16", name := "compress", desc := "([BII)[B" } : Jvm.MethodName)) ∈ lw_all := lw_g (lw_at lw_m5 36 rfl) rfl
theorem q1122 : (Jvm.Cond.methodLink "java/lang/StringUTF16" (259 : Nat) ({ cls := "java/lang/StringUTF16", name := "coderFromArrayLen", desc := "([BI)B" } : Jvm.MethodName)) ∈ lw_all := lw_g (lw_at lw_m5 37 rfl) rfl
theorem q1123 : (Jvm.Cond.classLink "java/lang/StringUTF16" (3 : Nat) "java/lang/String") ∈ lw_all := lw_g (lw_at lw_m5 38 rfl) rfl
theorem q1124 : (Jvm.Cond.methodLink "java/lang/StringUTF16" (263 : Nat) ({ cls := "java/lang/String", name := "<init>", desc := "([BB)V" } : Jvm.MethodName)) ∈ lw_all := lw_g (lw_at lw_m5 39 rfl) rfl
theorem q2079 : (Jvm.Cond.static ({ cls := "java/lang/StringUTF16", name := "putCharsAt", desc := "([BICCCC)I" } : Jvm.MethodName)) ∈ lw_all := lw_g (lw_at lw_m9 34 rfl) rfl
theorem q2080 : (Jvm.Cond.code ({ cls := "java/lang/StringUTF16", name := "putCharsAt", desc := "([BICCCC)I" } : Jvm.MethodName) prog_43_method_81_code (7 : Nat) (Option.some Jvm.ClassFile.FieldType.int)) ∈ lw_all := lw_g (lw_at lw_m9 35 rfl) rfl
theorem q2081 : (Jvm.Cond.methodLink "java/lang/StringUTF16" (96 : Nat) ({ cls := "java/lang/StringUTF16", name := "checkBoundsBeginEnd", desc := "(II[B)V" } : Jvm.MethodName)) ∈ lw_all := lw_g (lw_at lw_m9 36 rfl) rfl
theorem q2082 : (Jvm.Cond.static ({ cls := "java/lang/StringUTF16", name := "checkBoundsBeginEnd", desc := "(II[B)V" } : Jvm.MethodName)) ∈ lw_all := lw_g (lw_at lw_m9 37 rfl) rfl
theorem q2083 : (Jvm.Cond.code ({ cls := "java/lang/StringUTF16", name := "checkBoundsBeginEnd", desc := "(II[B)V" } : Jvm.MethodName) prog_43_method_93_code (3 : Nat) (Option.none : Option Jvm.ClassFile.FieldType)) ∈ lw_all := lw_g (lw_at lw_m9 38 rfl) rfl
theorem q2084 : (Jvm.Cond.methodLink "java/lang/StringUTF16" (241 : Nat) ({ cls := "java/lang/String", name := "checkBoundsBeginEnd", desc := "(III)V" } : Jvm.MethodName)) ∈ lw_all := lw_g (lw_at lw_m9 39 rfl) rfl

/-! jdk/internal/util/ArraysSupport -/
set_option maxRecDepth 100000
def RJ8 : String := "jdk/internal/util/ArraysSupport"
abbrev cJ8_newLength : ByteArray := prog_61_method_27_code
def yJ8_newLength : MethodName := ⟨RJ8, "newLength", "(III)I"⟩
def dkwJ8_newLength_1 : List UInt8 := [184, 0, 201, 172]
abbrev dktJ8_newLength_1 : List UInt8 := dkwJ8_newLength_1 ++ []
def dkwJ8_newLength_0 : List UInt8 := [26, 27, 28, 184, 0, 194, 96, 62, 3, 29, 162, 0, 11, 29, 18, 200, 163, 0, 5, 29, 172, 26, 27]
abbrev dktJ8_newLength_0 : List UInt8 := dkwJ8_newLength_0 ++ dktJ8_newLength_1
theorem dksJ8_newLength_0 : cJ8_newLength.data.toList.drop 0 = dktJ8_newLength_0 := by decide +kernel
theorem dksJ8_newLength_1 : cJ8_newLength.data.toList.drop 23 = dktJ8_newLength_1 := dk_seg dksJ8_newLength_0 23 rfl rfl
theorem dJ8_newLength_0 : decode cJ8_newLength 0 = .ok (.iload_n 0, 1) := dk_26 (dk_at dksJ8_newLength_0 0 rfl rfl)
theorem dJ8_newLength_1 : decode cJ8_newLength 1 = .ok (.iload_n 1, 1) := dk_27 (dk_at dksJ8_newLength_0 1 rfl rfl)
theorem dJ8_newLength_2 : decode cJ8_newLength 2 = .ok (.iload_n 2, 1) := dk_28 (dk_at dksJ8_newLength_0 2 rfl rfl)
theorem dJ8_newLength_3 : decode cJ8_newLength 3 = .ok (.invokestatic 194, 3) := dk_184 0 194 (dk_at dksJ8_newLength_0 3 rfl rfl)
theorem dJ8_newLength_6 : decode cJ8_newLength 6 = .ok (.iadd, 1) := dk_96 (dk_at dksJ8_newLength_0 6 rfl rfl)
theorem dJ8_newLength_7 : decode cJ8_newLength 7 = .ok (.istore_n 3, 1) := dk_62 (dk_at dksJ8_newLength_0 7 rfl rfl)
theorem dJ8_newLength_8 : decode cJ8_newLength 8 = .ok (.iconst 0, 1) := dk_3 (dk_at dksJ8_newLength_0 8 rfl rfl)
theorem dJ8_newLength_9 : decode cJ8_newLength 9 = .ok (.iload_n 3, 1) := dk_29 (dk_at dksJ8_newLength_0 9 rfl rfl)
theorem dJ8_newLength_10 : decode cJ8_newLength 10 = .ok (.if_icmp .ge 11, 3) := dk_162 0 11 (dk_at dksJ8_newLength_0 10 rfl rfl)
theorem dJ8_newLength_13 : decode cJ8_newLength 13 = .ok (.iload_n 3, 1) := dk_29 (dk_at dksJ8_newLength_0 13 rfl rfl)
theorem dJ8_newLength_14 : decode cJ8_newLength 14 = .ok (.ldc 200, 2) := dk_18 200 (dk_at dksJ8_newLength_0 14 rfl rfl)
theorem dJ8_newLength_16 : decode cJ8_newLength 16 = .ok (.if_icmp .gt 5, 3) := dk_163 0 5 (dk_at dksJ8_newLength_0 16 rfl rfl)
theorem dJ8_newLength_19 : decode cJ8_newLength 19 = .ok (.iload_n 3, 1) := dk_29 (dk_at dksJ8_newLength_0 19 rfl rfl)
theorem dJ8_newLength_20 : decode cJ8_newLength 20 = .ok (.ireturn, 1) := dk_172 (dk_at dksJ8_newLength_0 20 rfl rfl)
theorem dJ8_newLength_21 : decode cJ8_newLength 21 = .ok (.iload_n 0, 1) := dk_26 (dk_at dksJ8_newLength_0 21 rfl rfl)
theorem dJ8_newLength_22 : decode cJ8_newLength 22 = .ok (.iload_n 1, 1) := dk_27 (dk_at dksJ8_newLength_0 22 rfl rfl)
theorem dJ8_newLength_23 : decode cJ8_newLength 23 = .ok (.invokestatic 201, 3) := dk_184 0 201 (dk_at dksJ8_newLength_1 0 rfl rfl)
theorem dJ8_newLength_26 : decode cJ8_newLength 26 = .ok (.ireturn, 1) := dk_172 (dk_at dksJ8_newLength_1 3 rfl rfl)
abbrev cJ8_hugeLength : ByteArray := prog_61_method_28_code
def yJ8_hugeLength : MethodName := ⟨RJ8, "hugeLength", "(II)I"⟩
def dkwJ8_hugeLength_2 : List UInt8 := [191, 28, 18, 200, 163, 0, 6, 18, 200, 172, 28, 172]
abbrev dktJ8_hugeLength_2 : List UInt8 := dkwJ8_hugeLength_2 ++ []
def dkwJ8_hugeLength_1 : List UInt8 := [26, 182, 0, 98, 18, 208, 182, 0, 94, 27, 182, 0, 98, 18, 210, 182, 0, 94, 182, 0, 101, 183, 0, 212]
abbrev dktJ8_hugeLength_1 : List UInt8 := dkwJ8_hugeLength_1 ++ dktJ8_hugeLength_2
def dkwJ8_hugeLength_0 : List UInt8 := [26, 27, 96, 61, 28, 156, 0, 44, 187, 0, 204, 89, 187, 0, 89, 89, 183, 0, 91, 18, 206, 182, 0, 94]
abbrev dktJ8_hugeLength_0 : List UInt8 := dkwJ8_hugeLength_0 ++ dktJ8_hugeLength_1
theorem dksJ8_hugeLength_0 : cJ8_hugeLength.data.toList.drop 0 = dktJ8_hugeLength_0 := by decide +kernel
theorem dksJ8_hugeLength_1 : cJ8_hugeLength.data.toList.drop 24 = dktJ8_hugeLength_1 := dk_seg dksJ8_hugeLength_0 24 rfl rfl
theorem dksJ8_hugeLength_2 : cJ8_hugeLength.data.toList.drop 48 = dktJ8_hugeLength_2 := dk_seg dksJ8_hugeLength_1 24 rfl rfl
theorem dJ8_hugeLength_0 : decode cJ8_hugeLength 0 = .ok (.iload_n 0, 1) := dk_26 (dk_at dksJ8_hugeLength_0 0 rfl rfl)
theorem dJ8_hugeLength_1 : decode cJ8_hugeLength 1 = .ok (.iload_n 1, 1) := dk_27 (dk_at dksJ8_hugeLength_0 1 rfl rfl)
theorem dJ8_hugeLength_2 : decode cJ8_hugeLength 2 = .ok (.iadd, 1) := dk_96 (dk_at dksJ8_hugeLength_0 2 rfl rfl)
theorem dJ8_hugeLength_3 : decode cJ8_hugeLength 3 = .ok (.istore_n 2, 1) := dk_61 (dk_at dksJ8_hugeLength_0 3 rfl rfl)
theorem dJ8_hugeLength_4 : decode cJ8_hugeLength 4 = .ok (.iload_n 2, 1) := dk_28 (dk_at dksJ8_hugeLength_0 4 rfl rfl)
theorem dJ8_hugeLength_5 : decode cJ8_hugeLength 5 = .ok (.ifCond .ge 44, 3) := dk_156 0 44 (dk_at dksJ8_hugeLength_0 5 rfl rfl)
theorem dJ8_hugeLength_8 : decode cJ8_hugeLength 8 = .ok (.new 204, 3) := dk_187 0 204 (dk_at dksJ8_hugeLength_0 8 rfl rfl)
theorem dJ8_hugeLength_11 : decode cJ8_hugeLength 11 = .ok (.dup, 1) := dk_89 (dk_at dksJ8_hugeLength_0 11 rfl rfl)
theorem dJ8_hugeLength_12 : decode cJ8_hugeLength 12 = .ok (.new 89, 3) := dk_187 0 89 (dk_at dksJ8_hugeLength_0 12 rfl rfl)
theorem dJ8_hugeLength_15 : decode cJ8_hugeLength 15 = .ok (.dup, 1) := dk_89 (dk_at dksJ8_hugeLength_0 15 rfl rfl)
theorem dJ8_hugeLength_16 : decode cJ8_hugeLength 16 = .ok (.invokespecial 91, 3) := dk_183 0 91 (dk_at dksJ8_hugeLength_0 16 rfl rfl)
theorem dJ8_hugeLength_19 : decode cJ8_hugeLength 19 = .ok (.ldc 206, 2) := dk_18 206 (dk_at dksJ8_hugeLength_0 19 rfl rfl)
theorem dJ8_hugeLength_21 : decode cJ8_hugeLength 21 = .ok (.invokevirtual 94, 3) := dk_182 0 94 (dk_at dksJ8_hugeLength_0 21 rfl rfl)
theorem dJ8_hugeLength_24 : decode cJ8_hugeLength 24 = .ok (.iload_n 0, 1) := dk_26 (dk_at dksJ8_hugeLength_1 0 rfl rfl)
theorem dJ8_hugeLength_25 : decode cJ8_hugeLength 25 = .ok (.invokevirtual 98, 3) := dk_182 0 98 (dk_at dksJ8_hugeLength_1 1 rfl rfl)
theorem dJ8_hugeLength_28 : decode cJ8_hugeLength 28 = .ok (.ldc 208, 2) := dk_18 208 (dk_at dksJ8_hugeLength_1 4 rfl rfl)
theorem dJ8_hugeLength_30 : decode cJ8_hugeLength 30 = .ok (.invokevirtual 94, 3) := dk_182 0 94 (dk_at dksJ8_hugeLength_1 6 rfl rfl)
theorem dJ8_hugeLength_33 : decode cJ8_hugeLength 33 = .ok (.iload_n 1, 1) := dk_27 (dk_at dksJ8_hugeLength_1 9 rfl rfl)
theorem dJ8_hugeLength_34 : decode cJ8_hugeLength 34 = .ok (.invokevirtual 98, 3) := dk_182 0 98 (dk_at dksJ8_hugeLength_1 10 rfl rfl)
theorem dJ8_hugeLength_37 : decode cJ8_hugeLength 37 = .ok (.ldc 210, 2) := dk_18 210 (dk_at dksJ8_hugeLength_1 13 rfl rfl)
theorem dJ8_hugeLength_39 : decode cJ8_hugeLength 39 = .ok (.invokevirtual 94, 3) := dk_182 0 94 (dk_at dksJ8_hugeLength_1 15 rfl rfl)
theorem dJ8_hugeLength_42 : decode cJ8_hugeLength 42 = .ok (.invokevirtual 101, 3) := dk_182 0 101 (dk_at dksJ8_hugeLength_1 18 rfl rfl)
theorem dJ8_hugeLength_45 : decode cJ8_hugeLength 45 = .ok (.invokespecial 212, 3) := dk_183 0 212 (dk_at dksJ8_hugeLength_1 21 rfl rfl)
theorem dJ8_hugeLength_48 : decode cJ8_hugeLength 48 = .ok (.athrow, 1) := dk_191 (dk_at dksJ8_hugeLength_2 0 rfl rfl)
theorem dJ8_hugeLength_49 : decode cJ8_hugeLength 49 = .ok (.iload_n 2, 1) := dk_28 (dk_at dksJ8_hugeLength_2 1 rfl rfl)
theorem dJ8_hugeLength_50 : decode cJ8_hugeLength 50 = .ok (.ldc 200, 2) := dk_18 200 (dk_at dksJ8_hugeLength_2 2 rfl rfl)
theorem dJ8_hugeLength_52 : decode cJ8_hugeLength 52 = .ok (.if_icmp .gt 6, 3) := dk_163 0 6 (dk_at dksJ8_hugeLength_2 4 rfl rfl)
theorem dJ8_hugeLength_55 : decode cJ8_hugeLength 55 = .ok (.ldc 200, 2) := dk_18 200 (dk_at dksJ8_hugeLength_2 7 rfl rfl)
theorem dJ8_hugeLength_57 : decode cJ8_hugeLength 57 = .ok (.ireturn, 1) := dk_172 (dk_at dksJ8_hugeLength_2 9 rfl rfl)
theorem dJ8_hugeLength_58 : decode cJ8_hugeLength 58 = .ok (.iload_n 2, 1) := dk_28 (dk_at dksJ8_hugeLength_2 10 rfl rfl)
theorem dJ8_hugeLength_59 : decode cJ8_hugeLength 59 = .ok (.ireturn, 1) := dk_172 (dk_at dksJ8_hugeLength_2 11 rfl rfl)
abbrev cJ8_mismatch : ByteArray := prog_61_method_14_code
def yJ8_mismatch : MethodName := ⟨RJ8, "mismatch", "([BI[BII)I"⟩
def dkwJ8_mismatch_4 : List UInt8 := [132, 5, 1, 167, 255, 228, 2, 172]
abbrev dktJ8_mismatch_4 : List UInt8 := dkwJ8_mismatch_4 ++ []
def dkwJ8_mismatch_3 : List UInt8 := [21, 4, 162, 0, 27, 42, 27, 21, 5, 96, 51, 44, 29, 21, 5, 96, 51, 159, 0, 6, 21, 5, 172]
abbrev dktJ8_mismatch_3 : List UInt8 := dkwJ8_mismatch_3 ++ dktJ8_mismatch_4
def dkwJ8_mismatch_2 : List UInt8 := [184, 0, 122, 54, 5, 21, 5, 155, 0, 6, 21, 5, 172, 21, 4, 21, 5, 2, 130, 100, 54, 5, 21, 5]
abbrev dktJ8_mismatch_2 : List UInt8 := dkwJ8_mismatch_2 ++ dktJ8_mismatch_3
def dkwJ8_mismatch_1 : List UInt8 := [27, 96, 54, 6, 178, 0, 126, 29, 96, 54, 7, 42, 21, 6, 133, 44, 21, 7, 133, 21, 4, 178, 0, 129]
abbrev dktJ8_mismatch_1 : List UInt8 := dkwJ8_mismatch_1 ++ dktJ8_mismatch_2
def dkwJ8_mismatch_0 : List UInt8 := [3, 54, 5, 21, 4, 16, 7, 164, 0, 63, 42, 27, 51, 44, 29, 51, 159, 0, 5, 3, 172, 178, 0, 126]
abbrev dktJ8_mismatch_0 : List UInt8 := dkwJ8_mismatch_0 ++ dktJ8_mismatch_1
theorem dksJ8_mismatch_0 : cJ8_mismatch.data.toList.drop 0 = dktJ8_mismatch_0 := by decide +kernel
theorem dksJ8_mismatch_1 : cJ8_mismatch.data.toList.drop 24 = dktJ8_mismatch_1 := dk_seg dksJ8_mismatch_0 24 rfl rfl
theorem dksJ8_mismatch_2 : cJ8_mismatch.data.toList.drop 48 = dktJ8_mismatch_2 := dk_seg dksJ8_mismatch_1 24 rfl rfl
theorem dksJ8_mismatch_3 : cJ8_mismatch.data.toList.drop 72 = dktJ8_mismatch_3 := dk_seg dksJ8_mismatch_2 24 rfl rfl
theorem dksJ8_mismatch_4 : cJ8_mismatch.data.toList.drop 95 = dktJ8_mismatch_4 := dk_seg dksJ8_mismatch_3 23 rfl rfl
theorem dJ8_mismatch_0 : decode cJ8_mismatch 0 = .ok (.iconst 0, 1) := dk_3 (dk_at dksJ8_mismatch_0 0 rfl rfl)
theorem dJ8_mismatch_1 : decode cJ8_mismatch 1 = .ok (.istore 5, 2) := dk_54 5 (dk_at dksJ8_mismatch_0 1 rfl rfl)
theorem dJ8_mismatch_3 : decode cJ8_mismatch 3 = .ok (.iload 4, 2) := dk_21 4 (dk_at dksJ8_mismatch_0 3 rfl rfl)
theorem dJ8_mismatch_5 : decode cJ8_mismatch 5 = .ok (.bipush 7, 2) := dk_16 7 (dk_at dksJ8_mismatch_0 5 rfl rfl)
theorem dJ8_mismatch_7 : decode cJ8_mismatch 7 = .ok (.if_icmp .le 63, 3) := dk_164 0 63 (dk_at dksJ8_mismatch_0 7 rfl rfl)
theorem dJ8_mismatch_10 : decode cJ8_mismatch 10 = .ok (.aload_n 0, 1) := dk_42 (dk_at dksJ8_mismatch_0 10 rfl rfl)
theorem dJ8_mismatch_11 : decode cJ8_mismatch 11 = .ok (.iload_n 1, 1) := dk_27 (dk_at dksJ8_mismatch_0 11 rfl rfl)
theorem dJ8_mismatch_12 : decode cJ8_mismatch 12 = .ok (.baload, 1) := dk_51 (dk_at dksJ8_mismatch_0 12 rfl rfl)
theorem dJ8_mismatch_13 : decode cJ8_mismatch 13 = .ok (.aload_n 2, 1) := dk_44 (dk_at dksJ8_mismatch_0 13 rfl rfl)
theorem dJ8_mismatch_14 : decode cJ8_mismatch 14 = .ok (.iload_n 3, 1) := dk_29 (dk_at dksJ8_mismatch_0 14 rfl rfl)
theorem dJ8_mismatch_15 : decode cJ8_mismatch 15 = .ok (.baload, 1) := dk_51 (dk_at dksJ8_mismatch_0 15 rfl rfl)
theorem dJ8_mismatch_16 : decode cJ8_mismatch 16 = .ok (.if_icmp .eq 5, 3) := dk_159 0 5 (dk_at dksJ8_mismatch_0 16 rfl rfl)
theorem dJ8_mismatch_19 : decode cJ8_mismatch 19 = .ok (.iconst 0, 1) := dk_3 (dk_at dksJ8_mismatch_0 19 rfl rfl)
theorem dJ8_mismatch_20 : decode cJ8_mismatch 20 = .ok (.ireturn, 1) := dk_172 (dk_at dksJ8_mismatch_0 20 rfl rfl)
theorem dJ8_mismatch_21 : decode cJ8_mismatch 21 = .ok (.getstatic 126, 3) := dk_178 0 126 (dk_at dksJ8_mismatch_0 21 rfl rfl)
theorem dJ8_mismatch_24 : decode cJ8_mismatch 24 = .ok (.iload_n 1, 1) := dk_27 (dk_at dksJ8_mismatch_1 0 rfl rfl)
theorem dJ8_mismatch_25 : decode cJ8_mismatch 25 = .ok (.iadd, 1) := dk_96 (dk_at dksJ8_mismatch_1 1 rfl rfl)
theorem dJ8_mismatch_26 : decode cJ8_mismatch 26 = .ok (.istore 6, 2) := dk_54 6 (dk_at dksJ8_mismatch_1 2 rfl rfl)
theorem dJ8_mismatch_28 : decode cJ8_mismatch 28 = .ok (.getstatic 126, 3) := dk_178 0 126 (dk_at dksJ8_mismatch_1 4 rfl rfl)
theorem dJ8_mismatch_31 : decode cJ8_mismatch 31 = .ok (.iload_n 3, 1) := dk_29 (dk_at dksJ8_mismatch_1 7 rfl rfl)
theorem dJ8_mismatch_32 : decode cJ8_mismatch 32 = .ok (.iadd, 1) := dk_96 (dk_at dksJ8_mismatch_1 8 rfl rfl)
theorem dJ8_mismatch_33 : decode cJ8_mismatch 33 = .ok (.istore 7, 2) := dk_54 7 (dk_at dksJ8_mismatch_1 9 rfl rfl)
theorem dJ8_mismatch_35 : decode cJ8_mismatch 35 = .ok (.aload_n 0, 1) := dk_42 (dk_at dksJ8_mismatch_1 11 rfl rfl)
theorem dJ8_mismatch_36 : decode cJ8_mismatch 36 = .ok (.iload 6, 2) := dk_21 6 (dk_at dksJ8_mismatch_1 12 rfl rfl)
theorem dJ8_mismatch_38 : decode cJ8_mismatch 38 = .ok (.i2l, 1) := dk_133 (dk_at dksJ8_mismatch_1 14 rfl rfl)
theorem dJ8_mismatch_39 : decode cJ8_mismatch 39 = .ok (.aload_n 2, 1) := dk_44 (dk_at dksJ8_mismatch_1 15 rfl rfl)
theorem dJ8_mismatch_40 : decode cJ8_mismatch 40 = .ok (.iload 7, 2) := dk_21 7 (dk_at dksJ8_mismatch_1 16 rfl rfl)
theorem dJ8_mismatch_42 : decode cJ8_mismatch 42 = .ok (.i2l, 1) := dk_133 (dk_at dksJ8_mismatch_1 18 rfl rfl)
theorem dJ8_mismatch_43 : decode cJ8_mismatch 43 = .ok (.iload 4, 2) := dk_21 4 (dk_at dksJ8_mismatch_1 19 rfl rfl)
theorem dJ8_mismatch_45 : decode cJ8_mismatch 45 = .ok (.getstatic 129, 3) := dk_178 0 129 (dk_at dksJ8_mismatch_1 21 rfl rfl)
theorem dJ8_mismatch_48 : decode cJ8_mismatch 48 = .ok (.invokestatic 122, 3) := dk_184 0 122 (dk_at dksJ8_mismatch_2 0 rfl rfl)
theorem dJ8_mismatch_51 : decode cJ8_mismatch 51 = .ok (.istore 5, 2) := dk_54 5 (dk_at dksJ8_mismatch_2 3 rfl rfl)
theorem dJ8_mismatch_53 : decode cJ8_mismatch 53 = .ok (.iload 5, 2) := dk_21 5 (dk_at dksJ8_mismatch_2 5 rfl rfl)
theorem dJ8_mismatch_55 : decode cJ8_mismatch 55 = .ok (.ifCond .lt 6, 3) := dk_155 0 6 (dk_at dksJ8_mismatch_2 7 rfl rfl)
theorem dJ8_mismatch_58 : decode cJ8_mismatch 58 = .ok (.iload 5, 2) := dk_21 5 (dk_at dksJ8_mismatch_2 10 rfl rfl)
theorem dJ8_mismatch_60 : decode cJ8_mismatch 60 = .ok (.ireturn, 1) := dk_172 (dk_at dksJ8_mismatch_2 12 rfl rfl)
theorem dJ8_mismatch_61 : decode cJ8_mismatch 61 = .ok (.iload 4, 2) := dk_21 4 (dk_at dksJ8_mismatch_2 13 rfl rfl)
theorem dJ8_mismatch_63 : decode cJ8_mismatch 63 = .ok (.iload 5, 2) := dk_21 5 (dk_at dksJ8_mismatch_2 15 rfl rfl)
theorem dJ8_mismatch_65 : decode cJ8_mismatch 65 = .ok (.iconst (-1), 1) := dk_2 (dk_at dksJ8_mismatch_2 17 rfl rfl)
theorem dJ8_mismatch_66 : decode cJ8_mismatch 66 = .ok (.ixor, 1) := dk_130 (dk_at dksJ8_mismatch_2 18 rfl rfl)
theorem dJ8_mismatch_67 : decode cJ8_mismatch 67 = .ok (.isub, 1) := dk_100 (dk_at dksJ8_mismatch_2 19 rfl rfl)
theorem dJ8_mismatch_68 : decode cJ8_mismatch 68 = .ok (.istore 5, 2) := dk_54 5 (dk_at dksJ8_mismatch_2 20 rfl rfl)
theorem dJ8_mismatch_70 : decode cJ8_mismatch 70 = .ok (.iload 5, 2) := dk_21 5 (dk_at dksJ8_mismatch_2 22 rfl rfl)
theorem dJ8_mismatch_72 : decode cJ8_mismatch 72 = .ok (.iload 4, 2) := dk_21 4 (dk_at dksJ8_mismatch_3 0 rfl rfl)
theorem dJ8_mismatch_74 : decode cJ8_mismatch 74 = .ok (.if_icmp .ge 27, 3) := dk_162 0 27 (dk_at dksJ8_mismatch_3 2 rfl rfl)
theorem dJ8_mismatch_77 : decode cJ8_mismatch 77 = .ok (.aload_n 0, 1) := dk_42 (dk_at dksJ8_mismatch_3 5 rfl rfl)
theorem dJ8_mismatch_78 : decode cJ8_mismatch 78 = .ok (.iload_n 1, 1) := dk_27 (dk_at dksJ8_mismatch_3 6 rfl rfl)
theorem dJ8_mismatch_79 : decode cJ8_mismatch 79 = .ok (.iload 5, 2) := dk_21 5 (dk_at dksJ8_mismatch_3 7 rfl rfl)
theorem dJ8_mismatch_81 : decode cJ8_mismatch 81 = .ok (.iadd, 1) := dk_96 (dk_at dksJ8_mismatch_3 9 rfl rfl)
theorem dJ8_mismatch_82 : decode cJ8_mismatch 82 = .ok (.baload, 1) := dk_51 (dk_at dksJ8_mismatch_3 10 rfl rfl)
theorem dJ8_mismatch_83 : decode cJ8_mismatch 83 = .ok (.aload_n 2, 1) := dk_44 (dk_at dksJ8_mismatch_3 11 rfl rfl)
theorem dJ8_mismatch_84 : decode cJ8_mismatch 84 = .ok (.iload_n 3, 1) := dk_29 (dk_at dksJ8_mismatch_3 12 rfl rfl)
theorem dJ8_mismatch_85 : decode cJ8_mismatch 85 = .ok (.iload 5, 2) := dk_21 5 (dk_at dksJ8_mismatch_3 13 rfl rfl)
theorem dJ8_mismatch_87 : decode cJ8_mismatch 87 = .ok (.iadd, 1) := dk_96 (dk_at dksJ8_mismatch_3 15 rfl rfl)
theorem dJ8_mismatch_88 : decode cJ8_mismatch 88 = .ok (.baload, 1) := dk_51 (dk_at dksJ8_mismatch_3 16 rfl rfl)
theorem dJ8_mismatch_89 : decode cJ8_mismatch 89 = .ok (.if_icmp .eq 6, 3) := dk_159 0 6 (dk_at dksJ8_mismatch_3 17 rfl rfl)
theorem dJ8_mismatch_92 : decode cJ8_mismatch 92 = .ok (.iload 5, 2) := dk_21 5 (dk_at dksJ8_mismatch_3 20 rfl rfl)
theorem dJ8_mismatch_94 : decode cJ8_mismatch 94 = .ok (.ireturn, 1) := dk_172 (dk_at dksJ8_mismatch_3 22 rfl rfl)
theorem dJ8_mismatch_95 : decode cJ8_mismatch 95 = .ok (.iinc 5 1, 3) := dk_132 5 1 (dk_at dksJ8_mismatch_4 0 rfl rfl)
theorem dJ8_mismatch_98 : decode cJ8_mismatch 98 = .ok (.goto (-28), 3) := dk_167 255 228 (dk_at dksJ8_mismatch_4 3 rfl rfl)
theorem dJ8_mismatch_101 : decode cJ8_mismatch 101 = .ok (.iconst (-1), 1) := dk_2 (dk_at dksJ8_mismatch_4 6 rfl rfl)
theorem dJ8_mismatch_102 : decode cJ8_mismatch 102 = .ok (.ireturn, 1) := dk_172 (dk_at dksJ8_mismatch_4 7 rfl rfl)
abbrev cJ8_vectorizedMismatch : ByteArray := prog_61_method_3_code
def yJ8_vectorizedMismatch : MethodName := ⟨RJ8, "vectorizedMismatch", "(Ljava/lang/Object;JLjava/lang/Object;JII)I"⟩
def dkwJ8_vectorizedMismatch_11 : List UInt8 := [54, 10, 21, 10, 2, 130, 172, 21, 10, 2, 130, 172]
abbrev dktJ8_vectorizedMismatch_11 : List UInt8 := dkwJ8_vectorizedMismatch_11 ++ []
def dkwJ8_vectorizedMismatch_10 : List UInt8 := [178, 0, 46, 21, 7, 96, 122, 54, 17, 21, 9, 21, 8, 120, 21, 17, 96, 172, 21, 10, 21, 11, 100]
abbrev dktJ8_vectorizedMismatch_10 : List UInt8 := dkwJ8_vectorizedMismatch_10 ++ dktJ8_vectorizedMismatch_11
def dkwJ8_vectorizedMismatch_9 : List UInt8 := [153, 0, 18, 21, 16, 184, 0, 58, 178, 0, 46, 21, 7, 96, 122, 167, 0, 15, 21, 16, 184, 0, 11]
abbrev dktJ8_vectorizedMismatch_9 : List UInt8 := dkwJ8_vectorizedMismatch_9 ++ dktJ8_vectorizedMismatch_10
def dkwJ8_vectorizedMismatch_8 : List UInt8 := [182, 0, 54, 54, 15, 21, 14, 21, 15, 159, 0, 54, 21, 14, 21, 15, 130, 54, 16, 178, 0, 36]
abbrev dktJ8_vectorizedMismatch_8 : List UInt8 := dkwJ8_vectorizedMismatch_8 ++ dktJ8_vectorizedMismatch_9
def dkwJ8_vectorizedMismatch_7 : List UInt8 := [55, 12, 178, 0, 26, 42, 31, 22, 12, 97, 182, 0, 54, 54, 14, 178, 0, 26, 45, 22, 4, 22, 12, 97]
abbrev dktJ8_vectorizedMismatch_7 : List UInt8 := dkwJ8_vectorizedMismatch_7 ++ dktJ8_vectorizedMismatch_8
def dkwJ8_vectorizedMismatch_6 : List UInt8 := [4, 178, 0, 51, 21, 7, 100, 120, 54, 11, 21, 10, 21, 11, 161, 0, 104, 21, 9, 133, 178, 0, 20, 121]
abbrev dktJ8_vectorizedMismatch_6 : List UInt8 := dkwJ8_vectorizedMismatch_6 ++ dktJ8_vectorizedMismatch_7
def dkwJ8_vectorizedMismatch_5 : List UInt8 := [132, 9, 1, 167, 255, 148, 21, 6, 21, 9, 21, 8, 120, 100, 54, 10, 21, 7, 178, 0, 51, 162, 0, 126]
abbrev dktJ8_vectorizedMismatch_5 : List UInt8 := dkwJ8_vectorizedMismatch_5 ++ dktJ8_vectorizedMismatch_6
def dkwJ8_vectorizedMismatch_4 : List UInt8 := [22, 16, 184, 0, 49, 178, 0, 46, 21, 7, 96, 122, 54, 18, 21, 9, 21, 8, 120, 21, 18, 96, 172]
abbrev dktJ8_vectorizedMismatch_4 : List UInt8 := dkwJ8_vectorizedMismatch_4 ++ dktJ8_vectorizedMismatch_5
def dkwJ8_vectorizedMismatch_3 : List UInt8 := [55, 16, 178, 0, 36, 153, 0, 18, 22, 16, 184, 0, 40, 178, 0, 46, 21, 7, 96, 122, 167, 0, 15]
abbrev dktJ8_vectorizedMismatch_3 : List UInt8 := dkwJ8_vectorizedMismatch_3 ++ dktJ8_vectorizedMismatch_4
def dkwJ8_vectorizedMismatch_2 : List UInt8 := [22, 4, 22, 10, 97, 182, 0, 30, 55, 14, 22, 12, 22, 14, 148, 153, 0, 54, 22, 12, 22, 14, 131]
abbrev dktJ8_vectorizedMismatch_2 : List UInt8 := dkwJ8_vectorizedMismatch_2 ++ dktJ8_vectorizedMismatch_3
def dkwJ8_vectorizedMismatch_1 : List UInt8 := [178, 0, 20, 121, 55, 10, 178, 0, 26, 42, 31, 22, 10, 97, 182, 0, 30, 55, 12, 178, 0, 26, 45]
abbrev dktJ8_vectorizedMismatch_1 : List UInt8 := dkwJ8_vectorizedMismatch_1 ++ dktJ8_vectorizedMismatch_2
def dkwJ8_vectorizedMismatch_0 : List UInt8 := [178, 0, 20, 21, 7, 100, 54, 8, 3, 54, 9, 21, 9, 21, 6, 21, 8, 122, 162, 0, 104, 21, 9, 133]
abbrev dktJ8_vectorizedMismatch_0 : List UInt8 := dkwJ8_vectorizedMismatch_0 ++ dktJ8_vectorizedMismatch_1
theorem dksJ8_vectorizedMismatch_0 : cJ8_vectorizedMismatch.data.toList.drop 0 = dktJ8_vectorizedMismatch_0 := by decide +kernel
theorem dksJ8_vectorizedMismatch_1 : cJ8_vectorizedMismatch.data.toList.drop 24 = dktJ8_vectorizedMismatch_1 := dk_seg dksJ8_vectorizedMismatch_0 24 rfl rfl
theorem dksJ8_vectorizedMismatch_2 : cJ8_vectorizedMismatch.data.toList.drop 47 = dktJ8_vectorizedMismatch_2 := dk_seg dksJ8_vectorizedMismatch_1 23 rfl rfl
theorem dksJ8_vectorizedMismatch_3 : cJ8_vectorizedMismatch.data.toList.drop 70 = dktJ8_vectorizedMismatch_3 := dk_seg dksJ8_vectorizedMismatch_2 23 rfl rfl
theorem dksJ8_vectorizedMismatch_4 : cJ8_vectorizedMismatch.data.toList.drop 93 = dktJ8_vectorizedMismatch_4 := dk_seg dksJ8_vectorizedMismatch_3 23 rfl rfl
theorem dksJ8_vectorizedMismatch_5 : cJ8_vectorizedMismatch.data.toList.drop 116 = dktJ8_vectorizedMismatch_5 := dk_seg dksJ8_vectorizedMismatch_4 23 rfl rfl
theorem dksJ8_vectorizedMismatch_6 : cJ8_vectorizedMismatch.data.toList.drop 140 = dktJ8_vectorizedMismatch_6 := dk_seg dksJ8_vectorizedMismatch_5 24 rfl rfl
theorem dksJ8_vectorizedMismatch_7 : cJ8_vectorizedMismatch.data.toList.drop 164 = dktJ8_vectorizedMismatch_7 := dk_seg dksJ8_vectorizedMismatch_6 24 rfl rfl
theorem dksJ8_vectorizedMismatch_8 : cJ8_vectorizedMismatch.data.toList.drop 188 = dktJ8_vectorizedMismatch_8 := dk_seg dksJ8_vectorizedMismatch_7 24 rfl rfl
theorem dksJ8_vectorizedMismatch_9 : cJ8_vectorizedMismatch.data.toList.drop 210 = dktJ8_vectorizedMismatch_9 := dk_seg dksJ8_vectorizedMismatch_8 22 rfl rfl
theorem dksJ8_vectorizedMismatch_10 : cJ8_vectorizedMismatch.data.toList.drop 233 = dktJ8_vectorizedMismatch_10 := dk_seg dksJ8_vectorizedMismatch_9 23 rfl rfl
theorem dksJ8_vectorizedMismatch_11 : cJ8_vectorizedMismatch.data.toList.drop 256 = dktJ8_vectorizedMismatch_11 := dk_seg dksJ8_vectorizedMismatch_10 23 rfl rfl
theorem dJ8_vectorizedMismatch_0 : decode cJ8_vectorizedMismatch 0 = .ok (.getstatic 20, 3) := dk_178 0 20 (dk_at dksJ8_vectorizedMismatch_0 0 rfl rfl)
theorem dJ8_vectorizedMismatch_3 : decode cJ8_vectorizedMismatch 3 = .ok (.iload 7, 2) := dk_21 7 (dk_at dksJ8_vectorizedMismatch_0 3 rfl rfl)
theorem dJ8_vectorizedMismatch_5 : decode cJ8_vectorizedMismatch 5 = .ok (.isub, 1) := dk_100 (dk_at dksJ8_vectorizedMismatch_0 5 rfl rfl)
theorem dJ8_vectorizedMismatch_6 : decode cJ8_vectorizedMismatch 6 = .ok (.istore 8, 2) := dk_54 8 (dk_at dksJ8_vectorizedMismatch_0 6 rfl rfl)
theorem dJ8_vectorizedMismatch_8 : decode cJ8_vectorizedMismatch 8 = .ok (.iconst 0, 1) := dk_3 (dk_at dksJ8_vectorizedMismatch_0 8 rfl rfl)
theorem dJ8_vectorizedMismatch_9 : decode cJ8_vectorizedMismatch 9 = .ok (.istore 9, 2) := dk_54 9 (dk_at dksJ8_vectorizedMismatch_0 9 rfl rfl)
theorem dJ8_vectorizedMismatch_11 : decode cJ8_vectorizedMismatch 11 = .ok (.iload 9, 2) := dk_21 9 (dk_at dksJ8_vectorizedMismatch_0 11 rfl rfl)
theorem dJ8_vectorizedMismatch_13 : decode cJ8_vectorizedMismatch 13 = .ok (.iload 6, 2) := dk_21 6 (dk_at dksJ8_vectorizedMismatch_0 13 rfl rfl)
theorem dJ8_vectorizedMismatch_15 : decode cJ8_vectorizedMismatch 15 = .ok (.iload 8, 2) := dk_21 8 (dk_at dksJ8_vectorizedMismatch_0 15 rfl rfl)
theorem dJ8_vectorizedMismatch_17 : decode cJ8_vectorizedMismatch 17 = .ok (.ishr, 1) := dk_122 (dk_at dksJ8_vectorizedMismatch_0 17 rfl rfl)
theorem dJ8_vectorizedMismatch_18 : decode cJ8_vectorizedMismatch 18 = .ok (.if_icmp .ge 104, 3) := dk_162 0 104 (dk_at dksJ8_vectorizedMismatch_0 18 rfl rfl)
theorem dJ8_vectorizedMismatch_21 : decode cJ8_vectorizedMismatch 21 = .ok (.iload 9, 2) := dk_21 9 (dk_at dksJ8_vectorizedMismatch_0 21 rfl rfl)
theorem dJ8_vectorizedMismatch_23 : decode cJ8_vectorizedMismatch 23 = .ok (.i2l, 1) := dk_133 (dk_at dksJ8_vectorizedMismatch_0 23 rfl rfl)
theorem dJ8_vectorizedMismatch_24 : decode cJ8_vectorizedMismatch 24 = .ok (.getstatic 20, 3) := dk_178 0 20 (dk_at dksJ8_vectorizedMismatch_1 0 rfl rfl)
theorem dJ8_vectorizedMismatch_27 : decode cJ8_vectorizedMismatch 27 = .ok (.lshl, 1) := dk_121 (dk_at dksJ8_vectorizedMismatch_1 3 rfl rfl)
theorem dJ8_vectorizedMismatch_28 : decode cJ8_vectorizedMismatch 28 = .ok (.lstore 10, 2) := dk_55 10 (dk_at dksJ8_vectorizedMismatch_1 4 rfl rfl)
theorem dJ8_vectorizedMismatch_30 : decode cJ8_vectorizedMismatch 30 = .ok (.getstatic 26, 3) := dk_178 0 26 (dk_at dksJ8_vectorizedMismatch_1 6 rfl rfl)
theorem dJ8_vectorizedMismatch_33 : decode cJ8_vectorizedMismatch 33 = .ok (.aload_n 0, 1) := dk_42 (dk_at dksJ8_vectorizedMismatch_1 9 rfl rfl)
theorem dJ8_vectorizedMismatch_34 : decode cJ8_vectorizedMismatch 34 = .ok (.lload_n 1, 1) := dk_31 (dk_at dksJ8_vectorizedMismatch_1 10 rfl rfl)
theorem dJ8_vectorizedMismatch_35 : decode cJ8_vectorizedMismatch 35 = .ok (.lload 10, 2) := dk_22 10 (dk_at dksJ8_vectorizedMismatch_1 11 rfl rfl)
theorem dJ8_vectorizedMismatch_37 : decode cJ8_vectorizedMismatch 37 = .ok (.ladd, 1) := dk_97 (dk_at dksJ8_vectorizedMismatch_1 13 rfl rfl)
theorem dJ8_vectorizedMismatch_38 : decode cJ8_vectorizedMismatch 38 = .ok (.invokevirtual 30, 3) := dk_182 0 30 (dk_at dksJ8_vectorizedMismatch_1 14 rfl rfl)
theorem dJ8_vectorizedMismatch_41 : decode cJ8_vectorizedMismatch 41 = .ok (.lstore 12, 2) := dk_55 12 (dk_at dksJ8_vectorizedMismatch_1 17 rfl rfl)
theorem dJ8_vectorizedMismatch_43 : decode cJ8_vectorizedMismatch 43 = .ok (.getstatic 26, 3) := dk_178 0 26 (dk_at dksJ8_vectorizedMismatch_1 19 rfl rfl)
theorem dJ8_vectorizedMismatch_46 : decode cJ8_vectorizedMismatch 46 = .ok (.aload_n 3, 1) := dk_45 (dk_at dksJ8_vectorizedMismatch_1 22 rfl rfl)
theorem dJ8_vectorizedMismatch_47 : decode cJ8_vectorizedMismatch 47 = .ok (.lload 4, 2) := dk_22 4 (dk_at dksJ8_vectorizedMismatch_2 0 rfl rfl)
theorem dJ8_vectorizedMismatch_49 : decode cJ8_vectorizedMismatch 49 = .ok (.lload 10, 2) := dk_22 10 (dk_at dksJ8_vectorizedMismatch_2 2 rfl rfl)
theorem dJ8_vectorizedMismatch_51 : decode cJ8_vectorizedMismatch 51 = .ok (.ladd, 1) := dk_97 (dk_at dksJ8_vectorizedMismatch_2 4 rfl rfl)
theorem dJ8_vectorizedMismatch_52 : decode cJ8_vectorizedMismatch 52 = .ok (.invokevirtual 30, 3) := dk_182 0 30 (dk_at dksJ8_vectorizedMismatch_2 5 rfl rfl)
theorem dJ8_vectorizedMismatch_55 : decode cJ8_vectorizedMismatch 55 = .ok (.lstore 14, 2) := dk_55 14 (dk_at dksJ8_vectorizedMismatch_2 8 rfl rfl)
theorem dJ8_vectorizedMismatch_57 : decode cJ8_vectorizedMismatch 57 = .ok (.lload 12, 2) := dk_22 12 (dk_at dksJ8_vectorizedMismatch_2 10 rfl rfl)
theorem dJ8_vectorizedMismatch_59 : decode cJ8_vectorizedMismatch 59 = .ok (.lload 14, 2) := dk_22 14 (dk_at dksJ8_vectorizedMismatch_2 12 rfl rfl)
theorem dJ8_vectorizedMismatch_61 : decode cJ8_vectorizedMismatch 61 = .ok (.lcmp, 1) := dk_148 (dk_at dksJ8_vectorizedMismatch_2 14 rfl rfl)
theorem dJ8_vectorizedMismatch_62 : decode cJ8_vectorizedMismatch 62 = .ok (.ifCond .eq 54, 3) := dk_153 0 54 (dk_at dksJ8_vectorizedMismatch_2 15 rfl rfl)
theorem dJ8_vectorizedMismatch_65 : decode cJ8_vectorizedMismatch 65 = .ok (.lload 12, 2) := dk_22 12 (dk_at dksJ8_vectorizedMismatch_2 18 rfl rfl)
theorem dJ8_vectorizedMismatch_67 : decode cJ8_vectorizedMismatch 67 = .ok (.lload 14, 2) := dk_22 14 (dk_at dksJ8_vectorizedMismatch_2 20 rfl rfl)
theorem dJ8_vectorizedMismatch_69 : decode cJ8_vectorizedMismatch 69 = .ok (.lxor, 1) := dk_131 (dk_at dksJ8_vectorizedMismatch_2 22 rfl rfl)
theorem dJ8_vectorizedMismatch_70 : decode cJ8_vectorizedMismatch 70 = .ok (.lstore 16, 2) := dk_55 16 (dk_at dksJ8_vectorizedMismatch_3 0 rfl rfl)
theorem dJ8_vectorizedMismatch_72 : decode cJ8_vectorizedMismatch 72 = .ok (.getstatic 36, 3) := dk_178 0 36 (dk_at dksJ8_vectorizedMismatch_3 2 rfl rfl)
theorem dJ8_vectorizedMismatch_75 : decode cJ8_vectorizedMismatch 75 = .ok (.ifCond .eq 18, 3) := dk_153 0 18 (dk_at dksJ8_vectorizedMismatch_3 5 rfl rfl)
theorem dJ8_vectorizedMismatch_78 : decode cJ8_vectorizedMismatch 78 = .ok (.lload 16, 2) := dk_22 16 (dk_at dksJ8_vectorizedMismatch_3 8 rfl rfl)
theorem dJ8_vectorizedMismatch_80 : decode cJ8_vectorizedMismatch 80 = .ok (.invokestatic 40, 3) := dk_184 0 40 (dk_at dksJ8_vectorizedMismatch_3 10 rfl rfl)
theorem dJ8_vectorizedMismatch_83 : decode cJ8_vectorizedMismatch 83 = .ok (.getstatic 46, 3) := dk_178 0 46 (dk_at dksJ8_vectorizedMismatch_3 13 rfl rfl)
theorem dJ8_vectorizedMismatch_86 : decode cJ8_vectorizedMismatch 86 = .ok (.iload 7, 2) := dk_21 7 (dk_at dksJ8_vectorizedMismatch_3 16 rfl rfl)
theorem dJ8_vectorizedMismatch_88 : decode cJ8_vectorizedMismatch 88 = .ok (.iadd, 1) := dk_96 (dk_at dksJ8_vectorizedMismatch_3 18 rfl rfl)
theorem dJ8_vectorizedMismatch_89 : decode cJ8_vectorizedMismatch 89 = .ok (.ishr, 1) := dk_122 (dk_at dksJ8_vectorizedMismatch_3 19 rfl rfl)
theorem dJ8_vectorizedMismatch_90 : decode cJ8_vectorizedMismatch 90 = .ok (.goto 15, 3) := dk_167 0 15 (dk_at dksJ8_vectorizedMismatch_3 20 rfl rfl)
theorem dJ8_vectorizedMismatch_93 : decode cJ8_vectorizedMismatch 93 = .ok (.lload 16, 2) := dk_22 16 (dk_at dksJ8_vectorizedMismatch_4 0 rfl rfl)
theorem dJ8_vectorizedMismatch_95 : decode cJ8_vectorizedMismatch 95 = .ok (.invokestatic 49, 3) := dk_184 0 49 (dk_at dksJ8_vectorizedMismatch_4 2 rfl rfl)
theorem dJ8_vectorizedMismatch_98 : decode cJ8_vectorizedMismatch 98 = .ok (.getstatic 46, 3) := dk_178 0 46 (dk_at dksJ8_vectorizedMismatch_4 5 rfl rfl)
theorem dJ8_vectorizedMismatch_101 : decode cJ8_vectorizedMismatch 101 = .ok (.iload 7, 2) := dk_21 7 (dk_at dksJ8_vectorizedMismatch_4 8 rfl rfl)
theorem dJ8_vectorizedMismatch_103 : decode cJ8_vectorizedMismatch 103 = .ok (.iadd, 1) := dk_96 (dk_at dksJ8_vectorizedMismatch_4 10 rfl rfl)
theorem dJ8_vectorizedMismatch_104 : decode cJ8_vectorizedMismatch 104 = .ok (.ishr, 1) := dk_122 (dk_at dksJ8_vectorizedMismatch_4 11 rfl rfl)
theorem dJ8_vectorizedMismatch_105 : decode cJ8_vectorizedMismatch 105 = .ok (.istore 18, 2) := dk_54 18 (dk_at dksJ8_vectorizedMismatch_4 12 rfl rfl)
theorem dJ8_vectorizedMismatch_107 : decode cJ8_vectorizedMismatch 107 = .ok (.iload 9, 2) := dk_21 9 (dk_at dksJ8_vectorizedMismatch_4 14 rfl rfl)
theorem dJ8_vectorizedMismatch_109 : decode cJ8_vectorizedMismatch 109 = .ok (.iload 8, 2) := dk_21 8 (dk_at dksJ8_vectorizedMismatch_4 16 rfl rfl)
theorem dJ8_vectorizedMismatch_111 : decode cJ8_vectorizedMismatch 111 = .ok (.ishl, 1) := dk_120 (dk_at dksJ8_vectorizedMismatch_4 18 rfl rfl)
theorem dJ8_vectorizedMismatch_112 : decode cJ8_vectorizedMismatch 112 = .ok (.iload 18, 2) := dk_21 18 (dk_at dksJ8_vectorizedMismatch_4 19 rfl rfl)
theorem dJ8_vectorizedMismatch_114 : decode cJ8_vectorizedMismatch 114 = .ok (.iadd, 1) := dk_96 (dk_at dksJ8_vectorizedMismatch_4 21 rfl rfl)
theorem dJ8_vectorizedMismatch_115 : decode cJ8_vectorizedMismatch 115 = .ok (.ireturn, 1) := dk_172 (dk_at dksJ8_vectorizedMismatch_4 22 rfl rfl)
theorem dJ8_vectorizedMismatch_116 : decode cJ8_vectorizedMismatch 116 = .ok (.iinc 9 1, 3) := dk_132 9 1 (dk_at dksJ8_vectorizedMismatch_5 0 rfl rfl)
theorem dJ8_vectorizedMismatch_119 : decode cJ8_vectorizedMismatch 119 = .ok (.goto (-108), 3) := dk_167 255 148 (dk_at dksJ8_vectorizedMismatch_5 3 rfl rfl)
theorem dJ8_vectorizedMismatch_122 : decode cJ8_vectorizedMismatch 122 = .ok (.iload 6, 2) := dk_21 6 (dk_at dksJ8_vectorizedMismatch_5 6 rfl rfl)
theorem dJ8_vectorizedMismatch_124 : decode cJ8_vectorizedMismatch 124 = .ok (.iload 9, 2) := dk_21 9 (dk_at dksJ8_vectorizedMismatch_5 8 rfl rfl)
theorem dJ8_vectorizedMismatch_126 : decode cJ8_vectorizedMismatch 126 = .ok (.iload 8, 2) := dk_21 8 (dk_at dksJ8_vectorizedMismatch_5 10 rfl rfl)
theorem dJ8_vectorizedMismatch_128 : decode cJ8_vectorizedMismatch 128 = .ok (.ishl, 1) := dk_120 (dk_at dksJ8_vectorizedMismatch_5 12 rfl rfl)
theorem dJ8_vectorizedMismatch_129 : decode cJ8_vectorizedMismatch 129 = .ok (.isub, 1) := dk_100 (dk_at dksJ8_vectorizedMismatch_5 13 rfl rfl)
theorem dJ8_vectorizedMismatch_130 : decode cJ8_vectorizedMismatch 130 = .ok (.istore 10, 2) := dk_54 10 (dk_at dksJ8_vectorizedMismatch_5 14 rfl rfl)
theorem dJ8_vectorizedMismatch_132 : decode cJ8_vectorizedMismatch 132 = .ok (.iload 7, 2) := dk_21 7 (dk_at dksJ8_vectorizedMismatch_5 16 rfl rfl)
theorem dJ8_vectorizedMismatch_134 : decode cJ8_vectorizedMismatch 134 = .ok (.getstatic 51, 3) := dk_178 0 51 (dk_at dksJ8_vectorizedMismatch_5 18 rfl rfl)
theorem dJ8_vectorizedMismatch_137 : decode cJ8_vectorizedMismatch 137 = .ok (.if_icmp .ge 126, 3) := dk_162 0 126 (dk_at dksJ8_vectorizedMismatch_5 21 rfl rfl)
theorem dJ8_vectorizedMismatch_140 : decode cJ8_vectorizedMismatch 140 = .ok (.iconst 1, 1) := dk_4 (dk_at dksJ8_vectorizedMismatch_6 0 rfl rfl)
theorem dJ8_vectorizedMismatch_141 : decode cJ8_vectorizedMismatch 141 = .ok (.getstatic 51, 3) := dk_178 0 51 (dk_at dksJ8_vectorizedMismatch_6 1 rfl rfl)
theorem dJ8_vectorizedMismatch_144 : decode cJ8_vectorizedMismatch 144 = .ok (.iload 7, 2) := dk_21 7 (dk_at dksJ8_vectorizedMismatch_6 4 rfl rfl)
theorem dJ8_vectorizedMismatch_146 : decode cJ8_vectorizedMismatch 146 = .ok (.isub, 1) := dk_100 (dk_at dksJ8_vectorizedMismatch_6 6 rfl rfl)
theorem dJ8_vectorizedMismatch_147 : decode cJ8_vectorizedMismatch 147 = .ok (.ishl, 1) := dk_120 (dk_at dksJ8_vectorizedMismatch_6 7 rfl rfl)
theorem dJ8_vectorizedMismatch_148 : decode cJ8_vectorizedMismatch 148 = .ok (.istore 11, 2) := dk_54 11 (dk_at dksJ8_vectorizedMismatch_6 8 rfl rfl)
theorem dJ8_vectorizedMismatch_150 : decode cJ8_vectorizedMismatch 150 = .ok (.iload 10, 2) := dk_21 10 (dk_at dksJ8_vectorizedMismatch_6 10 rfl rfl)
theorem dJ8_vectorizedMismatch_152 : decode cJ8_vectorizedMismatch 152 = .ok (.iload 11, 2) := dk_21 11 (dk_at dksJ8_vectorizedMismatch_6 12 rfl rfl)
theorem dJ8_vectorizedMismatch_154 : decode cJ8_vectorizedMismatch 154 = .ok (.if_icmp .lt 104, 3) := dk_161 0 104 (dk_at dksJ8_vectorizedMismatch_6 14 rfl rfl)
theorem dJ8_vectorizedMismatch_157 : decode cJ8_vectorizedMismatch 157 = .ok (.iload 9, 2) := dk_21 9 (dk_at dksJ8_vectorizedMismatch_6 17 rfl rfl)
theorem dJ8_vectorizedMismatch_159 : decode cJ8_vectorizedMismatch 159 = .ok (.i2l, 1) := dk_133 (dk_at dksJ8_vectorizedMismatch_6 19 rfl rfl)
theorem dJ8_vectorizedMismatch_160 : decode cJ8_vectorizedMismatch 160 = .ok (.getstatic 20, 3) := dk_178 0 20 (dk_at dksJ8_vectorizedMismatch_6 20 rfl rfl)
theorem dJ8_vectorizedMismatch_163 : decode cJ8_vectorizedMismatch 163 = .ok (.lshl, 1) := dk_121 (dk_at dksJ8_vectorizedMismatch_6 23 rfl rfl)
theorem dJ8_vectorizedMismatch_164 : decode cJ8_vectorizedMismatch 164 = .ok (.lstore 12, 2) := dk_55 12 (dk_at dksJ8_vectorizedMismatch_7 0 rfl rfl)
theorem dJ8_vectorizedMismatch_166 : decode cJ8_vectorizedMismatch 166 = .ok (.getstatic 26, 3) := dk_178 0 26 (dk_at dksJ8_vectorizedMismatch_7 2 rfl rfl)
theorem dJ8_vectorizedMismatch_169 : decode cJ8_vectorizedMismatch 169 = .ok (.aload_n 0, 1) := dk_42 (dk_at dksJ8_vectorizedMismatch_7 5 rfl rfl)
theorem dJ8_vectorizedMismatch_170 : decode cJ8_vectorizedMismatch 170 = .ok (.lload_n 1, 1) := dk_31 (dk_at dksJ8_vectorizedMismatch_7 6 rfl rfl)
theorem dJ8_vectorizedMismatch_171 : decode cJ8_vectorizedMismatch 171 = .ok (.lload 12, 2) := dk_22 12 (dk_at dksJ8_vectorizedMismatch_7 7 rfl rfl)
theorem dJ8_vectorizedMismatch_173 : decode cJ8_vectorizedMismatch 173 = .ok (.ladd, 1) := dk_97 (dk_at dksJ8_vectorizedMismatch_7 9 rfl rfl)
theorem dJ8_vectorizedMismatch_174 : decode cJ8_vectorizedMismatch 174 = .ok (.invokevirtual 54, 3) := dk_182 0 54 (dk_at dksJ8_vectorizedMismatch_7 10 rfl rfl)
theorem dJ8_vectorizedMismatch_177 : decode cJ8_vectorizedMismatch 177 = .ok (.istore 14, 2) := dk_54 14 (dk_at dksJ8_vectorizedMismatch_7 13 rfl rfl)
theorem dJ8_vectorizedMismatch_179 : decode cJ8_vectorizedMismatch 179 = .ok (.getstatic 26, 3) := dk_178 0 26 (dk_at dksJ8_vectorizedMismatch_7 15 rfl rfl)
theorem dJ8_vectorizedMismatch_182 : decode cJ8_vectorizedMismatch 182 = .ok (.aload_n 3, 1) := dk_45 (dk_at dksJ8_vectorizedMismatch_7 18 rfl rfl)
theorem dJ8_vectorizedMismatch_183 : decode cJ8_vectorizedMismatch 183 = .ok (.lload 4, 2) := dk_22 4 (dk_at dksJ8_vectorizedMismatch_7 19 rfl rfl)
theorem dJ8_vectorizedMismatch_185 : decode cJ8_vectorizedMismatch 185 = .ok (.lload 12, 2) := dk_22 12 (dk_at dksJ8_vectorizedMismatch_7 21 rfl rfl)
theorem dJ8_vectorizedMismatch_187 : decode cJ8_vectorizedMismatch 187 = .ok (.ladd, 1) := dk_97 (dk_at dksJ8_vectorizedMismatch_7 23 rfl rfl)
theorem dJ8_vectorizedMismatch_188 : decode cJ8_vectorizedMismatch 188 = .ok (.invokevirtual 54, 3) := dk_182 0 54 (dk_at dksJ8_vectorizedMismatch_8 0 rfl rfl)
theorem dJ8_vectorizedMismatch_191 : decode cJ8_vectorizedMismatch 191 = .ok (.istore 15, 2) := dk_54 15 (dk_at dksJ8_vectorizedMismatch_8 3 rfl rfl)
theorem dJ8_vectorizedMismatch_193 : decode cJ8_vectorizedMismatch 193 = .ok (.iload 14, 2) := dk_21 14 (dk_at dksJ8_vectorizedMismatch_8 5 rfl rfl)
theorem dJ8_vectorizedMismatch_195 : decode cJ8_vectorizedMismatch 195 = .ok (.iload 15, 2) := dk_21 15 (dk_at dksJ8_vectorizedMismatch_8 7 rfl rfl)
theorem dJ8_vectorizedMismatch_197 : decode cJ8_vectorizedMismatch 197 = .ok (.if_icmp .eq 54, 3) := dk_159 0 54 (dk_at dksJ8_vectorizedMismatch_8 9 rfl rfl)
theorem dJ8_vectorizedMismatch_200 : decode cJ8_vectorizedMismatch 200 = .ok (.iload 14, 2) := dk_21 14 (dk_at dksJ8_vectorizedMismatch_8 12 rfl rfl)
theorem dJ8_vectorizedMismatch_202 : decode cJ8_vectorizedMismatch 202 = .ok (.iload 15, 2) := dk_21 15 (dk_at dksJ8_vectorizedMismatch_8 14 rfl rfl)
theorem dJ8_vectorizedMismatch_204 : decode cJ8_vectorizedMismatch 204 = .ok (.ixor, 1) := dk_130 (dk_at dksJ8_vectorizedMismatch_8 16 rfl rfl)
theorem dJ8_vectorizedMismatch_205 : decode cJ8_vectorizedMismatch 205 = .ok (.istore 16, 2) := dk_54 16 (dk_at dksJ8_vectorizedMismatch_8 17 rfl rfl)
theorem dJ8_vectorizedMismatch_207 : decode cJ8_vectorizedMismatch 207 = .ok (.getstatic 36, 3) := dk_178 0 36 (dk_at dksJ8_vectorizedMismatch_8 19 rfl rfl)
theorem dJ8_vectorizedMismatch_210 : decode cJ8_vectorizedMismatch 210 = .ok (.ifCond .eq 18, 3) := dk_153 0 18 (dk_at dksJ8_vectorizedMismatch_9 0 rfl rfl)
theorem dJ8_vectorizedMismatch_213 : decode cJ8_vectorizedMismatch 213 = .ok (.iload 16, 2) := dk_21 16 (dk_at dksJ8_vectorizedMismatch_9 3 rfl rfl)
theorem dJ8_vectorizedMismatch_215 : decode cJ8_vectorizedMismatch 215 = .ok (.invokestatic 58, 3) := dk_184 0 58 (dk_at dksJ8_vectorizedMismatch_9 5 rfl rfl)
theorem dJ8_vectorizedMismatch_218 : decode cJ8_vectorizedMismatch 218 = .ok (.getstatic 46, 3) := dk_178 0 46 (dk_at dksJ8_vectorizedMismatch_9 8 rfl rfl)
theorem dJ8_vectorizedMismatch_221 : decode cJ8_vectorizedMismatch 221 = .ok (.iload 7, 2) := dk_21 7 (dk_at dksJ8_vectorizedMismatch_9 11 rfl rfl)
theorem dJ8_vectorizedMismatch_223 : decode cJ8_vectorizedMismatch 223 = .ok (.iadd, 1) := dk_96 (dk_at dksJ8_vectorizedMismatch_9 13 rfl rfl)
theorem dJ8_vectorizedMismatch_224 : decode cJ8_vectorizedMismatch 224 = .ok (.ishr, 1) := dk_122 (dk_at dksJ8_vectorizedMismatch_9 14 rfl rfl)
theorem dJ8_vectorizedMismatch_225 : decode cJ8_vectorizedMismatch 225 = .ok (.goto 15, 3) := dk_167 0 15 (dk_at dksJ8_vectorizedMismatch_9 15 rfl rfl)
theorem dJ8_vectorizedMismatch_228 : decode cJ8_vectorizedMismatch 228 = .ok (.iload 16, 2) := dk_21 16 (dk_at dksJ8_vectorizedMismatch_9 18 rfl rfl)
theorem dJ8_vectorizedMismatch_230 : decode cJ8_vectorizedMismatch 230 = .ok (.invokestatic 11, 3) := dk_184 0 11 (dk_at dksJ8_vectorizedMismatch_9 20 rfl rfl)
theorem dJ8_vectorizedMismatch_233 : decode cJ8_vectorizedMismatch 233 = .ok (.getstatic 46, 3) := dk_178 0 46 (dk_at dksJ8_vectorizedMismatch_10 0 rfl rfl)
theorem dJ8_vectorizedMismatch_236 : decode cJ8_vectorizedMismatch 236 = .ok (.iload 7, 2) := dk_21 7 (dk_at dksJ8_vectorizedMismatch_10 3 rfl rfl)
theorem dJ8_vectorizedMismatch_238 : decode cJ8_vectorizedMismatch 238 = .ok (.iadd, 1) := dk_96 (dk_at dksJ8_vectorizedMismatch_10 5 rfl rfl)
theorem dJ8_vectorizedMismatch_239 : decode cJ8_vectorizedMismatch 239 = .ok (.ishr, 1) := dk_122 (dk_at dksJ8_vectorizedMismatch_10 6 rfl rfl)
theorem dJ8_vectorizedMismatch_240 : decode cJ8_vectorizedMismatch 240 = .ok (.istore 17, 2) := dk_54 17 (dk_at dksJ8_vectorizedMismatch_10 7 rfl rfl)
theorem dJ8_vectorizedMismatch_242 : decode cJ8_vectorizedMismatch 242 = .ok (.iload 9, 2) := dk_21 9 (dk_at dksJ8_vectorizedMismatch_10 9 rfl rfl)
theorem dJ8_vectorizedMismatch_244 : decode cJ8_vectorizedMismatch 244 = .ok (.iload 8, 2) := dk_21 8 (dk_at dksJ8_vectorizedMismatch_10 11 rfl rfl)
theorem dJ8_vectorizedMismatch_246 : decode cJ8_vectorizedMismatch 246 = .ok (.ishl, 1) := dk_120 (dk_at dksJ8_vectorizedMismatch_10 13 rfl rfl)
theorem dJ8_vectorizedMismatch_247 : decode cJ8_vectorizedMismatch 247 = .ok (.iload 17, 2) := dk_21 17 (dk_at dksJ8_vectorizedMismatch_10 14 rfl rfl)
theorem dJ8_vectorizedMismatch_249 : decode cJ8_vectorizedMismatch 249 = .ok (.iadd, 1) := dk_96 (dk_at dksJ8_vectorizedMismatch_10 16 rfl rfl)
theorem dJ8_vectorizedMismatch_250 : decode cJ8_vectorizedMismatch 250 = .ok (.ireturn, 1) := dk_172 (dk_at dksJ8_vectorizedMismatch_10 17 rfl rfl)
theorem dJ8_vectorizedMismatch_251 : decode cJ8_vectorizedMismatch 251 = .ok (.iload 10, 2) := dk_21 10 (dk_at dksJ8_vectorizedMismatch_10 18 rfl rfl)
theorem dJ8_vectorizedMismatch_253 : decode cJ8_vectorizedMismatch 253 = .ok (.iload 11, 2) := dk_21 11 (dk_at dksJ8_vectorizedMismatch_10 20 rfl rfl)
theorem dJ8_vectorizedMismatch_255 : decode cJ8_vectorizedMismatch 255 = .ok (.isub, 1) := dk_100 (dk_at dksJ8_vectorizedMismatch_10 22 rfl rfl)
theorem dJ8_vectorizedMismatch_256 : decode cJ8_vectorizedMismatch 256 = .ok (.istore 10, 2) := dk_54 10 (dk_at dksJ8_vectorizedMismatch_11 0 rfl rfl)
theorem dJ8_vectorizedMismatch_258 : decode cJ8_vectorizedMismatch 258 = .ok (.iload 10, 2) := dk_21 10 (dk_at dksJ8_vectorizedMismatch_11 2 rfl rfl)
theorem dJ8_vectorizedMismatch_260 : decode cJ8_vectorizedMismatch 260 = .ok (.iconst (-1), 1) := dk_2 (dk_at dksJ8_vectorizedMismatch_11 4 rfl rfl)
theorem dJ8_vectorizedMismatch_261 : decode cJ8_vectorizedMismatch 261 = .ok (.ixor, 1) := dk_130 (dk_at dksJ8_vectorizedMismatch_11 5 rfl rfl)
theorem dJ8_vectorizedMismatch_262 : decode cJ8_vectorizedMismatch 262 = .ok (.ireturn, 1) := dk_172 (dk_at dksJ8_vectorizedMismatch_11 6 rfl rfl)
theorem dJ8_vectorizedMismatch_263 : decode cJ8_vectorizedMismatch 263 = .ok (.iload 10, 2) := dk_21 10 (dk_at dksJ8_vectorizedMismatch_11 7 rfl rfl)
theorem dJ8_vectorizedMismatch_265 : decode cJ8_vectorizedMismatch 265 = .ok (.iconst (-1), 1) := dk_2 (dk_at dksJ8_vectorizedMismatch_11 9 rfl rfl)
theorem dJ8_vectorizedMismatch_266 : decode cJ8_vectorizedMismatch 266 = .ok (.ixor, 1) := dk_130 (dk_at dksJ8_vectorizedMismatch_11 10 rfl rfl)
theorem dJ8_vectorizedMismatch_267 : decode cJ8_vectorizedMismatch 267 = .ok (.ireturn, 1) := dk_172 (dk_at dksJ8_vectorizedMismatch_11 11 rfl rfl)
theorem q140 : (Jvm.Cond.initialized "jdk/internal/util/ArraysSupport") ∈ lw_all := lw_g (lw_at lw_m1 15 rfl) rfl
theorem q368 : (Jvm.Cond.static ({ cls := "jdk/internal/util/ArraysSupport", name := "newLength", desc := "(III)I" } : Jvm.MethodName)) ∈ lw_all := lw_g (lw_at lw_m2 3 rfl) rfl
theorem q369 : (Jvm.Cond.code ({ cls := "jdk/internal/util/ArraysSupport", name := "newLength", desc := "(III)I" } : Jvm.MethodName) prog_61_method_27_code (4 : Nat) (Option.some Jvm.ClassFile.FieldType.int)) ∈ lw_all := lw_g (lw_at lw_m2 4 rfl) rfl
theorem q370 : (Jvm.Cond.methodLink "jdk/internal/util/ArraysSupport" (194 : Nat) ({ cls := "java/lang/Math", name := "max", desc := "(II)I" } : Jvm.MethodName)) ∈ lw_all := lw_g (lw_at lw_m2 5 rfl) rfl
theorem q373 : (Jvm.Cond.constant "jdk/internal/util/ArraysSupport" (200 : Nat) (2147483639 : Int32)) ∈ lw_all := lw_g (lw_at lw_m2 8 rfl) rfl
theorem q374 : (Jvm.Cond.methodLink "jdk/internal/util/ArraysSupport" (201 : Nat) ({ cls := "jdk/internal/util/ArraysSupport", name := "hugeLength", desc := "(II)I" } : Jvm.MethodName)) ∈ lw_all := lw_g (lw_at lw_m2 9 rfl) rfl
theorem q375 : (Jvm.Cond.static ({ cls := "jdk/internal/util/ArraysSupport", name := "hugeLength", desc := "(II)I" } : Jvm.MethodName)) ∈ lw_all := lw_g (lw_at lw_m2 10 rfl) rfl
theorem q376 : (Jvm.Cond.code ({ cls := "jdk/internal/util/ArraysSupport", name := "hugeLength", desc := "(II)I" } : Jvm.MethodName) prog_61_method_28_code (3 : Nat) (Option.some Jvm.ClassFile.FieldType.int)) ∈ lw_all := lw_g (lw_at lw_m2 11 rfl) rfl
theorem q1134 : (Jvm.Cond.static ({ cls := "jdk/internal/util/ArraysSupport", name := "mismatch", desc := "([BI[BII)I" } : Jvm.MethodName)) ∈ lw_all := lw_g (lw_at lw_m5 49 rfl) rfl
theorem q1135 : (Jvm.Cond.code ({ cls := "jdk/internal/util/ArraysSupport", name := "mismatch", desc := "([BI[BII)I" } : Jvm.MethodName) prog_61_method_14_code (8 : Nat) (Option.some Jvm.ClassFile.FieldType.int)) ∈ lw_all := lw_g (lw_at lw_m5 50 rfl) rfl
theorem q1136 : (Jvm.Cond.fieldLink "jdk/internal/util/ArraysSupport" (126 : Nat) "jdk/internal/misc/Unsafe" "ARRAY_BYTE_BASE_OFFSET" "I") ∈ lw_all := lw_g (lw_at lw_m5 51 rfl) rfl
theorem q1138 : (Jvm.Cond.fieldLink "jdk/internal/util/ArraysSupport" (129 : Nat) "jdk/internal/util/ArraysSupport" "LOG2_ARRAY_BYTE_INDEX_SCALE" "I") ∈ lw_all := lw_g (lw_at lw_m5 53 rfl) rfl
theorem q1139 : (Jvm.Cond.laysStatic "jdk/internal/util/ArraysSupport" "LOG2_ARRAY_BYTE_INDEX_SCALE" "I") ∈ lw_tbl := lw_at lw_m5 54 rfl
theorem q1140 : (Jvm.Cond.methodLink "jdk/internal/util/ArraysSupport" (122 : Nat) ({ cls := "jdk/internal/util/ArraysSupport", name := "vectorizedMismatch", desc := "(Ljava/lang/Object;JLjava/lang/Object;JII)I" } : Jvm.MethodName)) ∈ lw_all := lw_g (lw_at lw_m5 55 rfl) rfl
theorem q1141 : (Jvm.Cond.static ({ cls := "jdk/internal/util/ArraysSupport", name := "vectorizedMismatch", desc := "(Ljava/lang/Object;JLjava/lang/Object;JII)I" } : Jvm.MethodName)) ∈ lw_all := lw_g (lw_at lw_m5 56 rfl) rfl
theorem q1142 : (Jvm.Cond.code ({ cls := "jdk/internal/util/ArraysSupport", name := "vectorizedMismatch", desc := "(Ljava/lang/Object;JLjava/lang/Object;JII)I" } : Jvm.MethodName) prog_61_method_3_code (19 : Nat) (Option.some Jvm.ClassFile.FieldType.int)) ∈ lw_all := lw_g (lw_at lw_m5 57 rfl) rfl
theorem q1143 : (Jvm.Cond.fieldLink "jdk/internal/util/ArraysSupport" (20 : Nat) "jdk/internal/util/ArraysSupport" "LOG2_ARRAY_LONG_INDEX_SCALE" "I") ∈ lw_all := lw_g (lw_at lw_m5 58 rfl) rfl
theorem q1144 : (Jvm.Cond.laysStatic "jdk/internal/util/ArraysSupport" "LOG2_ARRAY_LONG_INDEX_SCALE" "I") ∈ lw_tbl := lw_at lw_m5 59 rfl
theorem q1145 : (Jvm.Cond.fieldLink "jdk/internal/util/ArraysSupport" (26 : Nat) "jdk/internal/util/ArraysSupport" "U" "Ljdk/internal/misc/Unsafe;") ∈ lw_all := lw_g (lw_at lw_m5 60 rfl) rfl
theorem q1146 : (Jvm.Cond.laysStatic "jdk/internal/util/ArraysSupport" "U" "Ljdk/internal/misc/Unsafe;") ∈ lw_tbl := lw_at lw_m5 61 rfl
theorem q1147 : (Jvm.Cond.methodLink "jdk/internal/util/ArraysSupport" (30 : Nat) ({ cls := "jdk/internal/misc/Unsafe", name := "getLongUnaligned", desc := "(Ljava/lang/Object;J)J" } : Jvm.MethodName)) ∈ lw_all := lw_g (lw_at lw_m5 62 rfl) rfl
theorem q1199 : (Jvm.Cond.fieldLink "jdk/internal/util/ArraysSupport" (36 : Nat) "jdk/internal/util/ArraysSupport" "BIG_ENDIAN" "Z") ∈ lw_all := lw_g (lw_at lw_m5 114 rfl) rfl
theorem q1200 : (Jvm.Cond.laysStatic "jdk/internal/util/ArraysSupport" "BIG_ENDIAN" "Z") ∈ lw_tbl := lw_at lw_m5 115 rfl
theorem q1201 : (Jvm.Cond.methodLink "jdk/internal/util/ArraysSupport" (40 : Nat) ({ cls := "java/lang/Long", name := "numberOfLeadingZeros", desc := "(J)I" } : Jvm.MethodName)) ∈ lw_all := lw_g (lw_at lw_m5 116 rfl) rfl
theorem q1208 : (Jvm.Cond.fieldLink "jdk/internal/util/ArraysSupport" (46 : Nat) "jdk/internal/util/ArraysSupport" "LOG2_BYTE_BIT_SIZE" "I") ∈ lw_all := lw_g (lw_at lw_m5 123 rfl) rfl
theorem q1209 : (Jvm.Cond.laysStatic "jdk/internal/util/ArraysSupport" "LOG2_BYTE_BIT_SIZE" "I") ∈ lw_tbl := lw_at lw_m5 124 rfl
theorem q1210 : (Jvm.Cond.methodLink "jdk/internal/util/ArraysSupport" (49 : Nat) ({ cls := "java/lang/Long", name := "numberOfTrailingZeros", desc := "(J)I" } : Jvm.MethodName)) ∈ lw_all := lw_g (lw_at lw_m5 125 rfl) rfl
theorem q1216 : (Jvm.Cond.fieldLink "jdk/internal/util/ArraysSupport" (51 : Nat) "jdk/internal/util/ArraysSupport" "LOG2_ARRAY_INT_INDEX_SCALE" "I") ∈ lw_all := lw_g (lw_at lw_m5 131 rfl) rfl
theorem q1217 : (Jvm.Cond.laysStatic "jdk/internal/util/ArraysSupport" "LOG2_ARRAY_INT_INDEX_SCALE" "I") ∈ lw_tbl := lw_at lw_m5 132 rfl
theorem q1218 : (Jvm.Cond.methodLink "jdk/internal/util/ArraysSupport" (54 : Nat) ({ cls := "jdk/internal/misc/Unsafe", name := "getIntUnaligned", desc := "(Ljava/lang/Object;J)I" } : Jvm.MethodName)) ∈ lw_all := lw_g (lw_at lw_m5 133 rfl) rfl
theorem q1235 : (Jvm.Cond.methodLink "jdk/internal/util/ArraysSupport" (58 : Nat) ({ cls := "java/lang/Integer", name := "numberOfLeadingZeros", desc := "(I)I" } : Jvm.MethodName)) ∈ lw_all := lw_g (lw_at lw_m5 150 rfl) rfl
theorem q1236 : (Jvm.Cond.methodLink "jdk/internal/util/ArraysSupport" (11 : Nat) ({ cls := "java/lang/Integer", name := "numberOfTrailingZeros", desc := "(I)I" } : Jvm.MethodName)) ∈ lw_all := lw_g (lw_at lw_m5 151 rfl) rfl

/-! java/lang/Math -/
set_option maxRecDepth 100000
def RJ9 : String := "java/lang/Math"
abbrev cJ9_max : ByteArray := prog_38_method_65_code
def yJ9_max : MethodName := ⟨RJ9, "max", "(II)I"⟩
def dkwJ9_max_0 : List UInt8 := [26, 27, 161, 0, 7, 26, 167, 0, 4, 27, 172]
abbrev dktJ9_max_0 : List UInt8 := dkwJ9_max_0 ++ []
theorem dksJ9_max_0 : cJ9_max.data.toList.drop 0 = dktJ9_max_0 := by decide +kernel
theorem dJ9_max_0 : decode cJ9_max 0 = .ok (.iload_n 0, 1) := dk_26 (dk_at dksJ9_max_0 0 rfl rfl)
theorem dJ9_max_1 : decode cJ9_max 1 = .ok (.iload_n 1, 1) := dk_27 (dk_at dksJ9_max_0 1 rfl rfl)
theorem dJ9_max_2 : decode cJ9_max 2 = .ok (.if_icmp .lt 7, 3) := dk_161 0 7 (dk_at dksJ9_max_0 2 rfl rfl)
theorem dJ9_max_5 : decode cJ9_max 5 = .ok (.iload_n 0, 1) := dk_26 (dk_at dksJ9_max_0 5 rfl rfl)
theorem dJ9_max_6 : decode cJ9_max 6 = .ok (.goto 4, 3) := dk_167 0 4 (dk_at dksJ9_max_0 6 rfl rfl)
theorem dJ9_max_9 : decode cJ9_max 9 = .ok (.iload_n 1, 1) := dk_27 (dk_at dksJ9_max_0 9 rfl rfl)
theorem dJ9_max_10 : decode cJ9_max 10 = .ok (.ireturn, 1) := dk_172 (dk_at dksJ9_max_0 10 rfl rfl)
abbrev cJ9_min : ByteArray := prog_38_method_69_code
def yJ9_min : MethodName := ⟨RJ9, "min", "(II)I"⟩
def dkwJ9_min_0 : List UInt8 := [26, 27, 163, 0, 7, 26, 167, 0, 4, 27, 172]
abbrev dktJ9_min_0 : List UInt8 := dkwJ9_min_0 ++ []
theorem dksJ9_min_0 : cJ9_min.data.toList.drop 0 = dktJ9_min_0 := by decide +kernel
theorem dJ9_min_0 : decode cJ9_min 0 = .ok (.iload_n 0, 1) := dk_26 (dk_at dksJ9_min_0 0 rfl rfl)
theorem dJ9_min_1 : decode cJ9_min 1 = .ok (.iload_n 1, 1) := dk_27 (dk_at dksJ9_min_0 1 rfl rfl)
theorem dJ9_min_2 : decode cJ9_min 2 = .ok (.if_icmp .gt 7, 3) := dk_163 0 7 (dk_at dksJ9_min_0 2 rfl rfl)
theorem dJ9_min_5 : decode cJ9_min 5 = .ok (.iload_n 0, 1) := dk_26 (dk_at dksJ9_min_0 5 rfl rfl)
theorem dJ9_min_6 : decode cJ9_min 6 = .ok (.goto 4, 3) := dk_167 0 4 (dk_at dksJ9_min_0 6 rfl rfl)
theorem dJ9_min_9 : decode cJ9_min 9 = .ok (.iload_n 1, 1) := dk_27 (dk_at dksJ9_min_0 9 rfl rfl)
theorem dJ9_min_10 : decode cJ9_min 10 = .ok (.ireturn, 1) := dk_172 (dk_at dksJ9_min_0 10 rfl rfl)
theorem q141 : (Jvm.Cond.initialized "java/lang/Math") ∈ lw_all := lw_g (lw_at lw_m1 16 rfl) rfl
theorem q371 : (Jvm.Cond.static ({ cls := "java/lang/Math", name := "max", desc := "(II)I" } : Jvm.MethodName)) ∈ lw_all := lw_g (lw_at lw_m2 6 rfl) rfl
theorem q372 : (Jvm.Cond.code ({ cls := "java/lang/Math", name := "max", desc := "(II)I" } : Jvm.MethodName) prog_38_method_65_code (2 : Nat) (Option.some Jvm.ClassFile.FieldType.int)) ∈ lw_all := lw_g (lw_at lw_m2 7 rfl) rfl
theorem q389 : (Jvm.Cond.static ({ cls := "java/lang/Math", name := "min", desc := "(II)I" } : Jvm.MethodName)) ∈ lw_all := lw_g (lw_at lw_m2 24 rfl) rfl
theorem q390 : (Jvm.Cond.code ({ cls := "java/lang/Math", name := "min", desc := "(II)I" } : Jvm.MethodName) prog_38_method_69_code (2 : Nat) (Option.some Jvm.ClassFile.FieldType.int)) ∈ lw_all := lw_g (lw_at lw_m2 25 rfl) rfl
