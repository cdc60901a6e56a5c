/-! AskedNames -/
set_option maxRecDepth 100000
def RX0 : String := "AskedNames"
def TX0 : u_T := fun k => match k with
  | 0 => ("AskedNames", "now", "LAskedNames$State;", true)
  | _ => ("AskedNames", "kept", "[LAskedNames$State;", true)
def tyX0 : Nat → FieldType := fun k => match k with
  | 0 => .object "AskedNames$State"
  | _ => .array (.object "AskedNames$State")
abbrev wsX00 : List Cond := u_ws RX0 TX0 2
theorem nmX0 : ∀ a, a < 2 → ∀ b, b < 2 → a ≠ b → (TX0 a).2.1 ≠ (TX0 b).2.1 := by decide +kernel
theorem tyX0_ok : ∀ k, k < 2 → parseFieldDescriptor (TX0 k).2.2.1 = some (tyX0 k) := by decide +kernel
abbrev cX0_init : ByteArray := prog_1_method_7_code
def yX0_init : MethodName := ⟨RX0, "<init>", "()V"⟩
def dkwX0_init_0 : List UInt8 := [42, 183, 0, 37, 42, 187, 0, 42, 89, 183, 0, 44, 181, 0, 45, 42, 6, 189, 0, 42, 181, 0, 49, 177]
abbrev dktX0_init_0 : List UInt8 := dkwX0_init_0 ++ []
theorem dksX0_init_0 : cX0_init.data.toList.drop 0 = dktX0_init_0 := by decide +kernel
theorem dX0_init_0 : decode cX0_init 0 = .ok (.aload_n 0, 1) := dk_42 (dk_at dksX0_init_0 0 rfl rfl)
theorem dX0_init_1 : decode cX0_init 1 = .ok (.invokespecial 37, 3) := dk_183 0 37 (dk_at dksX0_init_0 1 rfl rfl)
theorem dX0_init_4 : decode cX0_init 4 = .ok (.aload_n 0, 1) := dk_42 (dk_at dksX0_init_0 4 rfl rfl)
theorem dX0_init_5 : decode cX0_init 5 = .ok (.new 42, 3) := dk_187 0 42 (dk_at dksX0_init_0 5 rfl rfl)
theorem dX0_init_8 : decode cX0_init 8 = .ok (.dup, 1) := dk_89 (dk_at dksX0_init_0 8 rfl rfl)
theorem dX0_init_9 : decode cX0_init 9 = .ok (.invokespecial 44, 3) := dk_183 0 44 (dk_at dksX0_init_0 9 rfl rfl)
theorem dX0_init_12 : decode cX0_init 12 = .ok (.putfield 45, 3) := dk_181 0 45 (dk_at dksX0_init_0 12 rfl rfl)
theorem dX0_init_15 : decode cX0_init 15 = .ok (.aload_n 0, 1) := dk_42 (dk_at dksX0_init_0 15 rfl rfl)
theorem dX0_init_16 : decode cX0_init 16 = .ok (.iconst 3, 1) := dk_6 (dk_at dksX0_init_0 16 rfl rfl)
theorem dX0_init_17 : decode cX0_init 17 = .ok (.anewarray 42, 3) := dk_189 0 42 (dk_at dksX0_init_0 17 rfl rfl)
theorem dX0_init_20 : decode cX0_init 20 = .ok (.putfield 49, 3) := dk_181 0 49 (dk_at dksX0_init_0 20 rfl rfl)
theorem dX0_init_23 : decode cX0_init 23 = .ok (.return_, 1) := dk_177 (dk_at dksX0_init_0 23 rfl rfl)
abbrev cX0_feed : ByteArray := prog_1_method_11_code
def yX0_feed : MethodName := ⟨RX0, "feed", "(IIIII)I"⟩
def dkwX0_feed_5 : List UInt8 := [181, 0, 84, 132, 6, 1, 167, 255, 156, 42, 180, 0, 45, 180, 0, 84, 172]
abbrev dktX0_feed_5 : List UInt8 := dkwX0_feed_5 ++ []
def dkwX0_feed_4 : List UInt8 := [16, 24, 16, 8, 21, 6, 6, 126, 104, 100, 122, 145, 84, 42, 180, 0, 45, 89, 180, 0, 84, 4, 96]
abbrev dktX0_feed_4 : List UInt8 := dkwX0_feed_4 ++ dktX0_feed_5
def dkwX0_feed_3 : List UInt8 := [167, 0, 5, 21, 5, 54, 7, 42, 180, 0, 45, 180, 0, 88, 42, 180, 0, 45, 180, 0, 84, 21, 7]
abbrev dktX0_feed_3 : List UInt8 := dkwX0_feed_3 ++ dktX0_feed_4
def dkwX0_feed_2 : List UInt8 := [167, 0, 28, 21, 6, 16, 12, 162, 0, 7, 29, 167, 0, 17, 21, 6, 16, 16, 162, 0, 8, 21, 4]
abbrev dktX0_feed_2 : List UInt8 := dkwX0_feed_2 ++ dktX0_feed_3
def dkwX0_feed_1 : List UInt8 := [16, 20, 162, 0, 99, 21, 6, 7, 162, 0, 7, 27, 167, 0, 39, 21, 6, 16, 8, 162, 0, 7, 28]
abbrev dktX0_feed_1 : List UInt8 := dkwX0_feed_1 ++ dktX0_feed_2
def dkwX0_feed_0 : List UInt8 := [42, 180, 0, 45, 180, 0, 84, 16, 20, 96, 17, 2, 88, 164, 0, 5, 2, 172, 3, 54, 6, 21, 6]
abbrev dktX0_feed_0 : List UInt8 := dkwX0_feed_0 ++ dktX0_feed_1
theorem dksX0_feed_0 : cX0_feed.data.toList.drop 0 = dktX0_feed_0 := by decide +kernel
theorem dksX0_feed_1 : cX0_feed.data.toList.drop 23 = dktX0_feed_1 := dk_seg dksX0_feed_0 23 rfl rfl
theorem dksX0_feed_2 : cX0_feed.data.toList.drop 46 = dktX0_feed_2 := dk_seg dksX0_feed_1 23 rfl rfl
theorem dksX0_feed_3 : cX0_feed.data.toList.drop 69 = dktX0_feed_3 := dk_seg dksX0_feed_2 23 rfl rfl
theorem dksX0_feed_4 : cX0_feed.data.toList.drop 92 = dktX0_feed_4 := dk_seg dksX0_feed_3 23 rfl rfl
theorem dksX0_feed_5 : cX0_feed.data.toList.drop 115 = dktX0_feed_5 := dk_seg dksX0_feed_4 23 rfl rfl
theorem dX0_feed_0 : decode cX0_feed 0 = .ok (.aload_n 0, 1) := dk_42 (dk_at dksX0_feed_0 0 rfl rfl)
theorem dX0_feed_1 : decode cX0_feed 1 = .ok (.getfield 45, 3) := dk_180 0 45 (dk_at dksX0_feed_0 1 rfl rfl)
theorem dX0_feed_4 : decode cX0_feed 4 = .ok (.getfield 84, 3) := dk_180 0 84 (dk_at dksX0_feed_0 4 rfl rfl)
theorem dX0_feed_7 : decode cX0_feed 7 = .ok (.bipush 20, 2) := dk_16 20 (dk_at dksX0_feed_0 7 rfl rfl)
theorem dX0_feed_9 : decode cX0_feed 9 = .ok (.iadd, 1) := dk_96 (dk_at dksX0_feed_0 9 rfl rfl)
theorem dX0_feed_10 : decode cX0_feed 10 = .ok (.sipush 600, 3) := dk_17 2 88 (dk_at dksX0_feed_0 10 rfl rfl)
theorem dX0_feed_13 : decode cX0_feed 13 = .ok (.if_icmp .le 5, 3) := dk_164 0 5 (dk_at dksX0_feed_0 13 rfl rfl)
theorem dX0_feed_16 : decode cX0_feed 16 = .ok (.iconst (-1), 1) := dk_2 (dk_at dksX0_feed_0 16 rfl rfl)
theorem dX0_feed_17 : decode cX0_feed 17 = .ok (.ireturn, 1) := dk_172 (dk_at dksX0_feed_0 17 rfl rfl)
theorem dX0_feed_18 : decode cX0_feed 18 = .ok (.iconst 0, 1) := dk_3 (dk_at dksX0_feed_0 18 rfl rfl)
theorem dX0_feed_19 : decode cX0_feed 19 = .ok (.istore 6, 2) := dk_54 6 (dk_at dksX0_feed_0 19 rfl rfl)
theorem dX0_feed_21 : decode cX0_feed 21 = .ok (.iload 6, 2) := dk_21 6 (dk_at dksX0_feed_0 21 rfl rfl)
theorem dX0_feed_23 : decode cX0_feed 23 = .ok (.bipush 20, 2) := dk_16 20 (dk_at dksX0_feed_1 0 rfl rfl)
theorem dX0_feed_25 : decode cX0_feed 25 = .ok (.if_icmp .ge 99, 3) := dk_162 0 99 (dk_at dksX0_feed_1 2 rfl rfl)
theorem dX0_feed_28 : decode cX0_feed 28 = .ok (.iload 6, 2) := dk_21 6 (dk_at dksX0_feed_1 5 rfl rfl)
theorem dX0_feed_30 : decode cX0_feed 30 = .ok (.iconst 4, 1) := dk_7 (dk_at dksX0_feed_1 7 rfl rfl)
theorem dX0_feed_31 : decode cX0_feed 31 = .ok (.if_icmp .ge 7, 3) := dk_162 0 7 (dk_at dksX0_feed_1 8 rfl rfl)
theorem dX0_feed_34 : decode cX0_feed 34 = .ok (.iload_n 1, 1) := dk_27 (dk_at dksX0_feed_1 11 rfl rfl)
theorem dX0_feed_35 : decode cX0_feed 35 = .ok (.goto 39, 3) := dk_167 0 39 (dk_at dksX0_feed_1 12 rfl rfl)
theorem dX0_feed_38 : decode cX0_feed 38 = .ok (.iload 6, 2) := dk_21 6 (dk_at dksX0_feed_1 15 rfl rfl)
theorem dX0_feed_40 : decode cX0_feed 40 = .ok (.bipush 8, 2) := dk_16 8 (dk_at dksX0_feed_1 17 rfl rfl)
theorem dX0_feed_42 : decode cX0_feed 42 = .ok (.if_icmp .ge 7, 3) := dk_162 0 7 (dk_at dksX0_feed_1 19 rfl rfl)
theorem dX0_feed_45 : decode cX0_feed 45 = .ok (.iload_n 2, 1) := dk_28 (dk_at dksX0_feed_1 22 rfl rfl)
theorem dX0_feed_46 : decode cX0_feed 46 = .ok (.goto 28, 3) := dk_167 0 28 (dk_at dksX0_feed_2 0 rfl rfl)
theorem dX0_feed_49 : decode cX0_feed 49 = .ok (.iload 6, 2) := dk_21 6 (dk_at dksX0_feed_2 3 rfl rfl)
theorem dX0_feed_51 : decode cX0_feed 51 = .ok (.bipush 12, 2) := dk_16 12 (dk_at dksX0_feed_2 5 rfl rfl)
theorem dX0_feed_53 : decode cX0_feed 53 = .ok (.if_icmp .ge 7, 3) := dk_162 0 7 (dk_at dksX0_feed_2 7 rfl rfl)
theorem dX0_feed_56 : decode cX0_feed 56 = .ok (.iload_n 3, 1) := dk_29 (dk_at dksX0_feed_2 10 rfl rfl)
theorem dX0_feed_57 : decode cX0_feed 57 = .ok (.goto 17, 3) := dk_167 0 17 (dk_at dksX0_feed_2 11 rfl rfl)
theorem dX0_feed_60 : decode cX0_feed 60 = .ok (.iload 6, 2) := dk_21 6 (dk_at dksX0_feed_2 14 rfl rfl)
theorem dX0_feed_62 : decode cX0_feed 62 = .ok (.bipush 16, 2) := dk_16 16 (dk_at dksX0_feed_2 16 rfl rfl)
theorem dX0_feed_64 : decode cX0_feed 64 = .ok (.if_icmp .ge 8, 3) := dk_162 0 8 (dk_at dksX0_feed_2 18 rfl rfl)
theorem dX0_feed_67 : decode cX0_feed 67 = .ok (.iload 4, 2) := dk_21 4 (dk_at dksX0_feed_2 21 rfl rfl)
theorem dX0_feed_69 : decode cX0_feed 69 = .ok (.goto 5, 3) := dk_167 0 5 (dk_at dksX0_feed_3 0 rfl rfl)
theorem dX0_feed_72 : decode cX0_feed 72 = .ok (.iload 5, 2) := dk_21 5 (dk_at dksX0_feed_3 3 rfl rfl)
theorem dX0_feed_74 : decode cX0_feed 74 = .ok (.istore 7, 2) := dk_54 7 (dk_at dksX0_feed_3 5 rfl rfl)
theorem dX0_feed_76 : decode cX0_feed 76 = .ok (.aload_n 0, 1) := dk_42 (dk_at dksX0_feed_3 7 rfl rfl)
theorem dX0_feed_77 : decode cX0_feed 77 = .ok (.getfield 45, 3) := dk_180 0 45 (dk_at dksX0_feed_3 8 rfl rfl)
theorem dX0_feed_80 : decode cX0_feed 80 = .ok (.getfield 88, 3) := dk_180 0 88 (dk_at dksX0_feed_3 11 rfl rfl)
theorem dX0_feed_83 : decode cX0_feed 83 = .ok (.aload_n 0, 1) := dk_42 (dk_at dksX0_feed_3 14 rfl rfl)
theorem dX0_feed_84 : decode cX0_feed 84 = .ok (.getfield 45, 3) := dk_180 0 45 (dk_at dksX0_feed_3 15 rfl rfl)
theorem dX0_feed_87 : decode cX0_feed 87 = .ok (.getfield 84, 3) := dk_180 0 84 (dk_at dksX0_feed_3 18 rfl rfl)
theorem dX0_feed_90 : decode cX0_feed 90 = .ok (.iload 7, 2) := dk_21 7 (dk_at dksX0_feed_3 21 rfl rfl)
theorem dX0_feed_92 : decode cX0_feed 92 = .ok (.bipush 24, 2) := dk_16 24 (dk_at dksX0_feed_4 0 rfl rfl)
theorem dX0_feed_94 : decode cX0_feed 94 = .ok (.bipush 8, 2) := dk_16 8 (dk_at dksX0_feed_4 2 rfl rfl)
theorem dX0_feed_96 : decode cX0_feed 96 = .ok (.iload 6, 2) := dk_21 6 (dk_at dksX0_feed_4 4 rfl rfl)
theorem dX0_feed_98 : decode cX0_feed 98 = .ok (.iconst 3, 1) := dk_6 (dk_at dksX0_feed_4 6 rfl rfl)
theorem dX0_feed_99 : decode cX0_feed 99 = .ok (.iand, 1) := dk_126 (dk_at dksX0_feed_4 7 rfl rfl)
theorem dX0_feed_100 : decode cX0_feed 100 = .ok (.imul, 1) := dk_104 (dk_at dksX0_feed_4 8 rfl rfl)
theorem dX0_feed_101 : decode cX0_feed 101 = .ok (.isub, 1) := dk_100 (dk_at dksX0_feed_4 9 rfl rfl)
theorem dX0_feed_102 : decode cX0_feed 102 = .ok (.ishr, 1) := dk_122 (dk_at dksX0_feed_4 10 rfl rfl)
theorem dX0_feed_103 : decode cX0_feed 103 = .ok (.i2b, 1) := dk_145 (dk_at dksX0_feed_4 11 rfl rfl)
theorem dX0_feed_104 : decode cX0_feed 104 = .ok (.bastore, 1) := dk_84 (dk_at dksX0_feed_4 12 rfl rfl)
theorem dX0_feed_105 : decode cX0_feed 105 = .ok (.aload_n 0, 1) := dk_42 (dk_at dksX0_feed_4 13 rfl rfl)
theorem dX0_feed_106 : decode cX0_feed 106 = .ok (.getfield 45, 3) := dk_180 0 45 (dk_at dksX0_feed_4 14 rfl rfl)
theorem dX0_feed_109 : decode cX0_feed 109 = .ok (.dup, 1) := dk_89 (dk_at dksX0_feed_4 17 rfl rfl)
theorem dX0_feed_110 : decode cX0_feed 110 = .ok (.getfield 84, 3) := dk_180 0 84 (dk_at dksX0_feed_4 18 rfl rfl)
theorem dX0_feed_113 : decode cX0_feed 113 = .ok (.iconst 1, 1) := dk_4 (dk_at dksX0_feed_4 21 rfl rfl)
theorem dX0_feed_114 : decode cX0_feed 114 = .ok (.iadd, 1) := dk_96 (dk_at dksX0_feed_4 22 rfl rfl)
theorem dX0_feed_115 : decode cX0_feed 115 = .ok (.putfield 84, 3) := dk_181 0 84 (dk_at dksX0_feed_5 0 rfl rfl)
theorem dX0_feed_118 : decode cX0_feed 118 = .ok (.iinc 6 1, 3) := dk_132 6 1 (dk_at dksX0_feed_5 3 rfl rfl)
theorem dX0_feed_121 : decode cX0_feed 121 = .ok (.goto (-100), 3) := dk_167 255 156 (dk_at dksX0_feed_5 6 rfl rfl)
theorem dX0_feed_124 : decode cX0_feed 124 = .ok (.aload_n 0, 1) := dk_42 (dk_at dksX0_feed_5 9 rfl rfl)
theorem dX0_feed_125 : decode cX0_feed 125 = .ok (.getfield 45, 3) := dk_180 0 45 (dk_at dksX0_feed_5 10 rfl rfl)
theorem dX0_feed_128 : decode cX0_feed 128 = .ok (.getfield 84, 3) := dk_180 0 84 (dk_at dksX0_feed_5 13 rfl rfl)
theorem dX0_feed_131 : decode cX0_feed 131 = .ok (.ireturn, 1) := dk_172 (dk_at dksX0_feed_5 16 rfl rfl)
abbrev cX0_end : ByteArray := prog_1_method_12_code
def yX0_end : MethodName := ⟨RX0, "end", "(I)I"⟩
def dkwX0_end_1 : List UInt8 := [181, 0, 84, 27, 172]
abbrev dktX0_end_1 : List UInt8 := dkwX0_end_1 ++ []
def dkwX0_end_0 : List UInt8 := [27, 155, 0, 14, 27, 42, 180, 0, 45, 180, 0, 84, 164, 0, 5, 2, 172, 42, 180, 0, 45, 27]
abbrev dktX0_end_0 : List UInt8 := dkwX0_end_0 ++ dktX0_end_1
theorem dksX0_end_0 : cX0_end.data.toList.drop 0 = dktX0_end_0 := by decide +kernel
theorem dksX0_end_1 : cX0_end.data.toList.drop 22 = dktX0_end_1 := dk_seg dksX0_end_0 22 rfl rfl
theorem dX0_end_0 : decode cX0_end 0 = .ok (.iload_n 1, 1) := dk_27 (dk_at dksX0_end_0 0 rfl rfl)
theorem dX0_end_1 : decode cX0_end 1 = .ok (.ifCond .lt 14, 3) := dk_155 0 14 (dk_at dksX0_end_0 1 rfl rfl)
theorem dX0_end_4 : decode cX0_end 4 = .ok (.iload_n 1, 1) := dk_27 (dk_at dksX0_end_0 4 rfl rfl)
theorem dX0_end_5 : decode cX0_end 5 = .ok (.aload_n 0, 1) := dk_42 (dk_at dksX0_end_0 5 rfl rfl)
theorem dX0_end_6 : decode cX0_end 6 = .ok (.getfield 45, 3) := dk_180 0 45 (dk_at dksX0_end_0 6 rfl rfl)
theorem dX0_end_9 : decode cX0_end 9 = .ok (.getfield 84, 3) := dk_180 0 84 (dk_at dksX0_end_0 9 rfl rfl)
theorem dX0_end_12 : decode cX0_end 12 = .ok (.if_icmp .le 5, 3) := dk_164 0 5 (dk_at dksX0_end_0 12 rfl rfl)
theorem dX0_end_15 : decode cX0_end 15 = .ok (.iconst (-1), 1) := dk_2 (dk_at dksX0_end_0 15 rfl rfl)
theorem dX0_end_16 : decode cX0_end 16 = .ok (.ireturn, 1) := dk_172 (dk_at dksX0_end_0 16 rfl rfl)
theorem dX0_end_17 : decode cX0_end 17 = .ok (.aload_n 0, 1) := dk_42 (dk_at dksX0_end_0 17 rfl rfl)
theorem dX0_end_18 : decode cX0_end 18 = .ok (.getfield 45, 3) := dk_180 0 45 (dk_at dksX0_end_0 18 rfl rfl)
theorem dX0_end_21 : decode cX0_end 21 = .ok (.iload_n 1, 1) := dk_27 (dk_at dksX0_end_0 21 rfl rfl)
theorem dX0_end_22 : decode cX0_end 22 = .ok (.putfield 84, 3) := dk_181 0 84 (dk_at dksX0_end_1 0 rfl rfl)
theorem dX0_end_25 : decode cX0_end 25 = .ok (.iload_n 1, 1) := dk_27 (dk_at dksX0_end_1 3 rfl rfl)
theorem dX0_end_26 : decode cX0_end 26 = .ok (.ireturn, 1) := dk_172 (dk_at dksX0_end_1 4 rfl rfl)
abbrev cX0_text : ByteArray := prog_1_method_15_code
def yX0_text : MethodName := ⟨RX0, "text", "(II)I"⟩
def dkwX0_text_4 : List UInt8 := [181, 0, 132, 42, 180, 0, 45, 25, 4, 180, 0, 147, 181, 0, 135, 2, 172]
abbrev dktX0_text_4 : List UInt8 := dkwX0_text_4 ++ []
def dkwX0_text_3 : List UInt8 := [16, 254, 172, 42, 27, 28, 29, 182, 0, 138, 172, 58, 4, 42, 180, 0, 45, 25, 4, 180, 0, 144]
abbrev dktX0_text_3 : List UInt8 := dkwX0_text_3 ++ dktX0_text_4
def dkwX0_text_2 : List UInt8 := [180, 0, 45, 27, 182, 0, 53, 5, 160, 0, 18, 167, 0, 12, 42, 27, 28, 182, 0, 72, 154, 0, 6]
abbrev dktX0_text_2 : List UInt8 := dkwX0_text_2 ++ dktX0_text_3
def dkwX0_text_1 : List UInt8 := [42, 180, 0, 45, 2, 181, 0, 135, 27, 3, 5, 184, 0, 56, 153, 0, 32, 28, 2, 160, 0, 18, 42]
abbrev dktX0_text_1 : List UInt8 := dkwX0_text_1 ++ dktX0_text_2
def dkwX0_text_0 : List UInt8 := [42, 180, 0, 45, 180, 0, 84, 62, 42, 180, 0, 45, 3, 181, 0, 84, 42, 180, 0, 45, 3, 181, 0, 132]
abbrev dktX0_text_0 : List UInt8 := dkwX0_text_0 ++ dktX0_text_1
theorem dksX0_text_0 : cX0_text.data.toList.drop 0 = dktX0_text_0 := by decide +kernel
theorem dksX0_text_1 : cX0_text.data.toList.drop 24 = dktX0_text_1 := dk_seg dksX0_text_0 24 rfl rfl
theorem dksX0_text_2 : cX0_text.data.toList.drop 47 = dktX0_text_2 := dk_seg dksX0_text_1 23 rfl rfl
theorem dksX0_text_3 : cX0_text.data.toList.drop 70 = dktX0_text_3 := dk_seg dksX0_text_2 23 rfl rfl
theorem dksX0_text_4 : cX0_text.data.toList.drop 92 = dktX0_text_4 := dk_seg dksX0_text_3 22 rfl rfl
theorem dX0_text_0 : decode cX0_text 0 = .ok (.aload_n 0, 1) := dk_42 (dk_at dksX0_text_0 0 rfl rfl)
theorem dX0_text_1 : decode cX0_text 1 = .ok (.getfield 45, 3) := dk_180 0 45 (dk_at dksX0_text_0 1 rfl rfl)
theorem dX0_text_4 : decode cX0_text 4 = .ok (.getfield 84, 3) := dk_180 0 84 (dk_at dksX0_text_0 4 rfl rfl)
theorem dX0_text_7 : decode cX0_text 7 = .ok (.istore_n 3, 1) := dk_62 (dk_at dksX0_text_0 7 rfl rfl)
theorem dX0_text_8 : decode cX0_text 8 = .ok (.aload_n 0, 1) := dk_42 (dk_at dksX0_text_0 8 rfl rfl)
theorem dX0_text_9 : decode cX0_text 9 = .ok (.getfield 45, 3) := dk_180 0 45 (dk_at dksX0_text_0 9 rfl rfl)
theorem dX0_text_12 : decode cX0_text 12 = .ok (.iconst 0, 1) := dk_3 (dk_at dksX0_text_0 12 rfl rfl)
theorem dX0_text_13 : decode cX0_text 13 = .ok (.putfield 84, 3) := dk_181 0 84 (dk_at dksX0_text_0 13 rfl rfl)
theorem dX0_text_16 : decode cX0_text 16 = .ok (.aload_n 0, 1) := dk_42 (dk_at dksX0_text_0 16 rfl rfl)
theorem dX0_text_17 : decode cX0_text 17 = .ok (.getfield 45, 3) := dk_180 0 45 (dk_at dksX0_text_0 17 rfl rfl)
theorem dX0_text_20 : decode cX0_text 20 = .ok (.iconst 0, 1) := dk_3 (dk_at dksX0_text_0 20 rfl rfl)
theorem dX0_text_21 : decode cX0_text 21 = .ok (.putfield 132, 3) := dk_181 0 132 (dk_at dksX0_text_0 21 rfl rfl)
theorem dX0_text_24 : decode cX0_text 24 = .ok (.aload_n 0, 1) := dk_42 (dk_at dksX0_text_1 0 rfl rfl)
theorem dX0_text_25 : decode cX0_text 25 = .ok (.getfield 45, 3) := dk_180 0 45 (dk_at dksX0_text_1 1 rfl rfl)
theorem dX0_text_28 : decode cX0_text 28 = .ok (.iconst (-1), 1) := dk_2 (dk_at dksX0_text_1 4 rfl rfl)
theorem dX0_text_29 : decode cX0_text 29 = .ok (.putfield 135, 3) := dk_181 0 135 (dk_at dksX0_text_1 5 rfl rfl)
theorem dX0_text_32 : decode cX0_text 32 = .ok (.iload_n 1, 1) := dk_27 (dk_at dksX0_text_1 8 rfl rfl)
theorem dX0_text_33 : decode cX0_text 33 = .ok (.iconst 0, 1) := dk_3 (dk_at dksX0_text_1 9 rfl rfl)
theorem dX0_text_34 : decode cX0_text 34 = .ok (.iconst 2, 1) := dk_5 (dk_at dksX0_text_1 10 rfl rfl)
theorem dX0_text_35 : decode cX0_text 35 = .ok (.invokestatic 56, 3) := dk_184 0 56 (dk_at dksX0_text_1 11 rfl rfl)
theorem dX0_text_38 : decode cX0_text 38 = .ok (.ifCond .eq 32, 3) := dk_153 0 32 (dk_at dksX0_text_1 14 rfl rfl)
theorem dX0_text_41 : decode cX0_text 41 = .ok (.iload_n 2, 1) := dk_28 (dk_at dksX0_text_1 17 rfl rfl)
theorem dX0_text_42 : decode cX0_text 42 = .ok (.iconst (-1), 1) := dk_2 (dk_at dksX0_text_1 18 rfl rfl)
theorem dX0_text_43 : decode cX0_text 43 = .ok (.if_icmp .ne 18, 3) := dk_160 0 18 (dk_at dksX0_text_1 19 rfl rfl)
theorem dX0_text_46 : decode cX0_text 46 = .ok (.aload_n 0, 1) := dk_42 (dk_at dksX0_text_1 22 rfl rfl)
theorem dX0_text_47 : decode cX0_text 47 = .ok (.getfield 45, 3) := dk_180 0 45 (dk_at dksX0_text_2 0 rfl rfl)
theorem dX0_text_50 : decode cX0_text 50 = .ok (.iload_n 1, 1) := dk_27 (dk_at dksX0_text_2 3 rfl rfl)
theorem dX0_text_51 : decode cX0_text 51 = .ok (.invokevirtual 53, 3) := dk_182 0 53 (dk_at dksX0_text_2 4 rfl rfl)
theorem dX0_text_54 : decode cX0_text 54 = .ok (.iconst 2, 1) := dk_5 (dk_at dksX0_text_2 7 rfl rfl)
theorem dX0_text_55 : decode cX0_text 55 = .ok (.if_icmp .ne 18, 3) := dk_160 0 18 (dk_at dksX0_text_2 8 rfl rfl)
theorem dX0_text_58 : decode cX0_text 58 = .ok (.goto 12, 3) := dk_167 0 12 (dk_at dksX0_text_2 11 rfl rfl)
theorem dX0_text_61 : decode cX0_text 61 = .ok (.aload_n 0, 1) := dk_42 (dk_at dksX0_text_2 14 rfl rfl)
theorem dX0_text_62 : decode cX0_text 62 = .ok (.iload_n 1, 1) := dk_27 (dk_at dksX0_text_2 15 rfl rfl)
theorem dX0_text_63 : decode cX0_text 63 = .ok (.iload_n 2, 1) := dk_28 (dk_at dksX0_text_2 16 rfl rfl)
theorem dX0_text_64 : decode cX0_text 64 = .ok (.invokevirtual 72, 3) := dk_182 0 72 (dk_at dksX0_text_2 17 rfl rfl)
theorem dX0_text_67 : decode cX0_text 67 = .ok (.ifCond .ne 6, 3) := dk_154 0 6 (dk_at dksX0_text_2 20 rfl rfl)
theorem dX0_text_70 : decode cX0_text 70 = .ok (.bipush (-2), 2) := dk_16 254 (dk_at dksX0_text_3 0 rfl rfl)
theorem dX0_text_72 : decode cX0_text 72 = .ok (.ireturn, 1) := dk_172 (dk_at dksX0_text_3 2 rfl rfl)
theorem dX0_text_73 : decode cX0_text 73 = .ok (.aload_n 0, 1) := dk_42 (dk_at dksX0_text_3 3 rfl rfl)
theorem dX0_text_74 : decode cX0_text 74 = .ok (.iload_n 1, 1) := dk_27 (dk_at dksX0_text_3 4 rfl rfl)
theorem dX0_text_75 : decode cX0_text 75 = .ok (.iload_n 2, 1) := dk_28 (dk_at dksX0_text_3 5 rfl rfl)
theorem dX0_text_76 : decode cX0_text 76 = .ok (.iload_n 3, 1) := dk_29 (dk_at dksX0_text_3 6 rfl rfl)
theorem dX0_text_77 : decode cX0_text 77 = .ok (.invokevirtual 138, 3) := dk_182 0 138 (dk_at dksX0_text_3 7 rfl rfl)
theorem dX0_text_80 : decode cX0_text 80 = .ok (.ireturn, 1) := dk_172 (dk_at dksX0_text_3 10 rfl rfl)
theorem dX0_text_81 : decode cX0_text 81 = .ok (.astore 4, 2) := dk_58 4 (dk_at dksX0_text_3 11 rfl rfl)
theorem dX0_text_83 : decode cX0_text 83 = .ok (.aload_n 0, 1) := dk_42 (dk_at dksX0_text_3 13 rfl rfl)
theorem dX0_text_84 : decode cX0_text 84 = .ok (.getfield 45, 3) := dk_180 0 45 (dk_at dksX0_text_3 14 rfl rfl)
theorem dX0_text_87 : decode cX0_text 87 = .ok (.aload 4, 2) := dk_25 4 (dk_at dksX0_text_3 17 rfl rfl)
theorem dX0_text_89 : decode cX0_text 89 = .ok (.getfield 144, 3) := dk_180 0 144 (dk_at dksX0_text_3 19 rfl rfl)
theorem dX0_text_92 : decode cX0_text 92 = .ok (.putfield 132, 3) := dk_181 0 132 (dk_at dksX0_text_4 0 rfl rfl)
theorem dX0_text_95 : decode cX0_text 95 = .ok (.aload_n 0, 1) := dk_42 (dk_at dksX0_text_4 3 rfl rfl)
theorem dX0_text_96 : decode cX0_text 96 = .ok (.getfield 45, 3) := dk_180 0 45 (dk_at dksX0_text_4 4 rfl rfl)
theorem dX0_text_99 : decode cX0_text 99 = .ok (.aload 4, 2) := dk_25 4 (dk_at dksX0_text_4 7 rfl rfl)
theorem dX0_text_101 : decode cX0_text 101 = .ok (.getfield 147, 3) := dk_180 0 147 (dk_at dksX0_text_4 9 rfl rfl)
theorem dX0_text_104 : decode cX0_text 104 = .ok (.putfield 135, 3) := dk_181 0 135 (dk_at dksX0_text_4 12 rfl rfl)
theorem dX0_text_107 : decode cX0_text 107 = .ok (.iconst (-1), 1) := dk_2 (dk_at dksX0_text_4 15 rfl rfl)
theorem dX0_text_108 : decode cX0_text 108 = .ok (.ireturn, 1) := dk_172 (dk_at dksX0_text_4 16 rfl rfl)
abbrev cX0_isIn : ByteArray := prog_1_method_1_code
def yX0_isIn : MethodName := ⟨RX0, "isIn", "(III)Z"⟩
def dkwX0_isIn_0 : List UInt8 := [26, 27, 161, 0, 12, 26, 28, 163, 0, 7, 4, 167, 0, 4, 3, 172]
abbrev dktX0_isIn_0 : List UInt8 := dkwX0_isIn_0 ++ []
theorem dksX0_isIn_0 : cX0_isIn.data.toList.drop 0 = dktX0_isIn_0 := by decide +kernel
theorem dX0_isIn_0 : decode cX0_isIn 0 = .ok (.iload_n 0, 1) := dk_26 (dk_at dksX0_isIn_0 0 rfl rfl)
theorem dX0_isIn_1 : decode cX0_isIn 1 = .ok (.iload_n 1, 1) := dk_27 (dk_at dksX0_isIn_0 1 rfl rfl)
theorem dX0_isIn_2 : decode cX0_isIn 2 = .ok (.if_icmp .lt 12, 3) := dk_161 0 12 (dk_at dksX0_isIn_0 2 rfl rfl)
theorem dX0_isIn_5 : decode cX0_isIn 5 = .ok (.iload_n 0, 1) := dk_26 (dk_at dksX0_isIn_0 5 rfl rfl)
theorem dX0_isIn_6 : decode cX0_isIn 6 = .ok (.iload_n 2, 1) := dk_28 (dk_at dksX0_isIn_0 6 rfl rfl)
theorem dX0_isIn_7 : decode cX0_isIn 7 = .ok (.if_icmp .gt 7, 3) := dk_163 0 7 (dk_at dksX0_isIn_0 7 rfl rfl)
theorem dX0_isIn_10 : decode cX0_isIn 10 = .ok (.iconst 1, 1) := dk_4 (dk_at dksX0_isIn_0 10 rfl rfl)
theorem dX0_isIn_11 : decode cX0_isIn 11 = .ok (.goto 4, 3) := dk_167 0 4 (dk_at dksX0_isIn_0 11 rfl rfl)
theorem dX0_isIn_14 : decode cX0_isIn 14 = .ok (.iconst 0, 1) := dk_3 (dk_at dksX0_isIn_0 14 rfl rfl)
theorem dX0_isIn_15 : decode cX0_isIn 15 = .ok (.ireturn, 1) := dk_172 (dk_at dksX0_isIn_0 15 rfl rfl)
abbrev cX0_is : ByteArray := prog_1_method_8_code
def yX0_is : MethodName := ⟨RX0, "is", "(II)Z"⟩
def dkwX0_is_0 : List UInt8 := [28, 3, 42, 180, 0, 45, 27, 182, 0, 53, 4, 100, 184, 0, 56, 172]
abbrev dktX0_is_0 : List UInt8 := dkwX0_is_0 ++ []
theorem dksX0_is_0 : cX0_is.data.toList.drop 0 = dktX0_is_0 := by decide +kernel
theorem dX0_is_0 : decode cX0_is 0 = .ok (.iload_n 2, 1) := dk_28 (dk_at dksX0_is_0 0 rfl rfl)
theorem dX0_is_1 : decode cX0_is 1 = .ok (.iconst 0, 1) := dk_3 (dk_at dksX0_is_0 1 rfl rfl)
theorem dX0_is_2 : decode cX0_is 2 = .ok (.aload_n 0, 1) := dk_42 (dk_at dksX0_is_0 2 rfl rfl)
theorem dX0_is_3 : decode cX0_is 3 = .ok (.getfield 45, 3) := dk_180 0 45 (dk_at dksX0_is_0 3 rfl rfl)
theorem dX0_is_6 : decode cX0_is 6 = .ok (.iload_n 1, 1) := dk_27 (dk_at dksX0_is_0 6 rfl rfl)
theorem dX0_is_7 : decode cX0_is 7 = .ok (.invokevirtual 53, 3) := dk_182 0 53 (dk_at dksX0_is_0 7 rfl rfl)
theorem dX0_is_10 : decode cX0_is 10 = .ok (.iconst 1, 1) := dk_4 (dk_at dksX0_is_0 10 rfl rfl)
theorem dX0_is_11 : decode cX0_is 11 = .ok (.isub, 1) := dk_100 (dk_at dksX0_is_0 11 rfl rfl)
theorem dX0_is_12 : decode cX0_is 12 = .ok (.invokestatic 56, 3) := dk_184 0 56 (dk_at dksX0_is_0 12 rfl rfl)
theorem dX0_is_15 : decode cX0_is 15 = .ok (.ireturn, 1) := dk_172 (dk_at dksX0_is_0 15 rfl rfl)
abbrev cX0_reads : ByteArray := prog_1_method_14_code
def yX0_reads : MethodName := ⟨RX0, "reads", "(III)I"⟩
def dkwX0_reads_5 : List UInt8 := [187, 0, 128, 89, 42, 180, 0, 45, 180, 0, 88, 29, 183, 0, 130, 182, 0, 131, 184, 0, 112, 172]
abbrev dktX0_reads_5 : List UInt8 := dkwX0_reads_5 ++ []
def dkwX0_reads_4 : List UInt8 := [180, 0, 88, 29, 183, 0, 121, 182, 0, 122, 184, 0, 112, 172, 42, 180, 0, 45, 180, 0, 125, 28]
abbrev dktX0_reads_4 : List UInt8 := dkwX0_reads_4 ++ dktX0_reads_5
def dkwX0_reads_3 : List UInt8 := [182, 0, 108, 184, 0, 112, 172, 42, 180, 0, 45, 180, 0, 116, 28, 187, 0, 119, 89, 42, 180, 0, 45]
abbrev dktX0_reads_3 : List UInt8 := dkwX0_reads_3 ++ dktX0_reads_4
def dkwX0_reads_2 : List UInt8 := [42, 180, 0, 45, 180, 0, 60, 28, 187, 0, 103, 89, 42, 180, 0, 45, 180, 0, 88, 29, 183, 0, 105]
abbrev dktX0_reads_2 : List UInt8 := dkwX0_reads_2 ++ dktX0_reads_3
def dkwX0_reads_1 : List UInt8 := [171, 0, 0, 0, 0, 0, 87, 0, 0, 0, 2, 0, 0, 0, 0, 0, 0, 0, 27, 0, 0, 0, 1, 0, 0, 0, 57]
abbrev dktX0_reads_1 : List UInt8 := dkwX0_reads_1 ++ dktX0_reads_2
def dkwX0_reads_0 : List UInt8 := [27]
abbrev dktX0_reads_0 : List UInt8 := dkwX0_reads_0 ++ dktX0_reads_1
theorem dksX0_reads_0 : cX0_reads.data.toList.drop 0 = dktX0_reads_0 := by decide +kernel
theorem dksX0_reads_1 : cX0_reads.data.toList.drop 1 = dktX0_reads_1 := dk_seg dksX0_reads_0 1 rfl rfl
theorem dksX0_reads_2 : cX0_reads.data.toList.drop 28 = dktX0_reads_2 := dk_seg dksX0_reads_1 27 rfl rfl
theorem dksX0_reads_3 : cX0_reads.data.toList.drop 51 = dktX0_reads_3 := dk_seg dksX0_reads_2 23 rfl rfl
theorem dksX0_reads_4 : cX0_reads.data.toList.drop 74 = dktX0_reads_4 := dk_seg dksX0_reads_3 23 rfl rfl
theorem dksX0_reads_5 : cX0_reads.data.toList.drop 96 = dktX0_reads_5 := dk_seg dksX0_reads_4 22 rfl rfl
theorem dX0_reads_0 : decode cX0_reads 0 = .ok (.iload_n 1, 1) := dk_27 (dk_at dksX0_reads_0 0 rfl rfl)
theorem dX0_reads_1 : decode cX0_reads 1 = .ok (.lookupswitch 87 #[(0, 27), (1, 57)], 27) := by decide +kernel
theorem dX0_reads_28 : decode cX0_reads 28 = .ok (.aload_n 0, 1) := dk_42 (dk_at dksX0_reads_2 0 rfl rfl)
theorem dX0_reads_29 : decode cX0_reads 29 = .ok (.getfield 45, 3) := dk_180 0 45 (dk_at dksX0_reads_2 1 rfl rfl)
theorem dX0_reads_32 : decode cX0_reads 32 = .ok (.getfield 60, 3) := dk_180 0 60 (dk_at dksX0_reads_2 4 rfl rfl)
theorem dX0_reads_35 : decode cX0_reads 35 = .ok (.iload_n 2, 1) := dk_28 (dk_at dksX0_reads_2 7 rfl rfl)
theorem dX0_reads_36 : decode cX0_reads 36 = .ok (.new 103, 3) := dk_187 0 103 (dk_at dksX0_reads_2 8 rfl rfl)
theorem dX0_reads_39 : decode cX0_reads 39 = .ok (.dup, 1) := dk_89 (dk_at dksX0_reads_2 11 rfl rfl)
theorem dX0_reads_40 : decode cX0_reads 40 = .ok (.aload_n 0, 1) := dk_42 (dk_at dksX0_reads_2 12 rfl rfl)
theorem dX0_reads_41 : decode cX0_reads 41 = .ok (.getfield 45, 3) := dk_180 0 45 (dk_at dksX0_reads_2 13 rfl rfl)
theorem dX0_reads_44 : decode cX0_reads 44 = .ok (.getfield 88, 3) := dk_180 0 88 (dk_at dksX0_reads_2 16 rfl rfl)
theorem dX0_reads_47 : decode cX0_reads 47 = .ok (.iload_n 3, 1) := dk_29 (dk_at dksX0_reads_2 19 rfl rfl)
theorem dX0_reads_48 : decode cX0_reads 48 = .ok (.invokespecial 105, 3) := dk_183 0 105 (dk_at dksX0_reads_2 20 rfl rfl)
theorem dX0_reads_51 : decode cX0_reads 51 = .ok (.invokevirtual 108, 3) := dk_182 0 108 (dk_at dksX0_reads_3 0 rfl rfl)
theorem dX0_reads_54 : decode cX0_reads 54 = .ok (.invokestatic 112, 3) := dk_184 0 112 (dk_at dksX0_reads_3 3 rfl rfl)
theorem dX0_reads_57 : decode cX0_reads 57 = .ok (.ireturn, 1) := dk_172 (dk_at dksX0_reads_3 6 rfl rfl)
theorem dX0_reads_58 : decode cX0_reads 58 = .ok (.aload_n 0, 1) := dk_42 (dk_at dksX0_reads_3 7 rfl rfl)
theorem dX0_reads_59 : decode cX0_reads 59 = .ok (.getfield 45, 3) := dk_180 0 45 (dk_at dksX0_reads_3 8 rfl rfl)
theorem dX0_reads_62 : decode cX0_reads 62 = .ok (.getfield 116, 3) := dk_180 0 116 (dk_at dksX0_reads_3 11 rfl rfl)
theorem dX0_reads_65 : decode cX0_reads 65 = .ok (.iload_n 2, 1) := dk_28 (dk_at dksX0_reads_3 14 rfl rfl)
theorem dX0_reads_66 : decode cX0_reads 66 = .ok (.new 119, 3) := dk_187 0 119 (dk_at dksX0_reads_3 15 rfl rfl)
theorem dX0_reads_69 : decode cX0_reads 69 = .ok (.dup, 1) := dk_89 (dk_at dksX0_reads_3 18 rfl rfl)
theorem dX0_reads_70 : decode cX0_reads 70 = .ok (.aload_n 0, 1) := dk_42 (dk_at dksX0_reads_3 19 rfl rfl)
theorem dX0_reads_71 : decode cX0_reads 71 = .ok (.getfield 45, 3) := dk_180 0 45 (dk_at dksX0_reads_3 20 rfl rfl)
theorem dX0_reads_74 : decode cX0_reads 74 = .ok (.getfield 88, 3) := dk_180 0 88 (dk_at dksX0_reads_4 0 rfl rfl)
theorem dX0_reads_77 : decode cX0_reads 77 = .ok (.iload_n 3, 1) := dk_29 (dk_at dksX0_reads_4 3 rfl rfl)
theorem dX0_reads_78 : decode cX0_reads 78 = .ok (.invokespecial 121, 3) := dk_183 0 121 (dk_at dksX0_reads_4 4 rfl rfl)
theorem dX0_reads_81 : decode cX0_reads 81 = .ok (.invokevirtual 122, 3) := dk_182 0 122 (dk_at dksX0_reads_4 7 rfl rfl)
theorem dX0_reads_84 : decode cX0_reads 84 = .ok (.invokestatic 112, 3) := dk_184 0 112 (dk_at dksX0_reads_4 10 rfl rfl)
theorem dX0_reads_87 : decode cX0_reads 87 = .ok (.ireturn, 1) := dk_172 (dk_at dksX0_reads_4 13 rfl rfl)
theorem dX0_reads_88 : decode cX0_reads 88 = .ok (.aload_n 0, 1) := dk_42 (dk_at dksX0_reads_4 14 rfl rfl)
theorem dX0_reads_89 : decode cX0_reads 89 = .ok (.getfield 45, 3) := dk_180 0 45 (dk_at dksX0_reads_4 15 rfl rfl)
theorem dX0_reads_92 : decode cX0_reads 92 = .ok (.getfield 125, 3) := dk_180 0 125 (dk_at dksX0_reads_4 18 rfl rfl)
theorem dX0_reads_95 : decode cX0_reads 95 = .ok (.iload_n 2, 1) := dk_28 (dk_at dksX0_reads_4 21 rfl rfl)
theorem dX0_reads_96 : decode cX0_reads 96 = .ok (.new 128, 3) := dk_187 0 128 (dk_at dksX0_reads_5 0 rfl rfl)
theorem dX0_reads_99 : decode cX0_reads 99 = .ok (.dup, 1) := dk_89 (dk_at dksX0_reads_5 3 rfl rfl)
theorem dX0_reads_100 : decode cX0_reads 100 = .ok (.aload_n 0, 1) := dk_42 (dk_at dksX0_reads_5 4 rfl rfl)
theorem dX0_reads_101 : decode cX0_reads 101 = .ok (.getfield 45, 3) := dk_180 0 45 (dk_at dksX0_reads_5 5 rfl rfl)
theorem dX0_reads_104 : decode cX0_reads 104 = .ok (.getfield 88, 3) := dk_180 0 88 (dk_at dksX0_reads_5 8 rfl rfl)
theorem dX0_reads_107 : decode cX0_reads 107 = .ok (.iload_n 3, 1) := dk_29 (dk_at dksX0_reads_5 11 rfl rfl)
theorem dX0_reads_108 : decode cX0_reads 108 = .ok (.invokespecial 130, 3) := dk_183 0 130 (dk_at dksX0_reads_5 12 rfl rfl)
theorem dX0_reads_111 : decode cX0_reads 111 = .ok (.invokevirtual 131, 3) := dk_182 0 131 (dk_at dksX0_reads_5 15 rfl rfl)
theorem dX0_reads_114 : decode cX0_reads 114 = .ok (.invokestatic 112, 3) := dk_184 0 112 (dk_at dksX0_reads_5 18 rfl rfl)
theorem dX0_reads_117 : decode cX0_reads 117 = .ok (.ireturn, 1) := dk_172 (dk_at dksX0_reads_5 21 rfl rfl)
abbrev cX0_puts : ByteArray := prog_1_method_13_code
def yX0_puts : MethodName := ⟨RX0, "puts", "(Ljava/util/ArrayList;ILjava/lang/Object;)I"⟩
def dkwX0_puts_1 : List UInt8 := [87, 27, 172]
abbrev dktX0_puts_1 : List UInt8 := dkwX0_puts_1 ++ []
def dkwX0_puts_0 : List UInt8 := [27, 2, 160, 0, 16, 42, 44, 182, 0, 92, 87, 42, 182, 0, 96, 4, 100, 172, 42, 27, 44, 182, 0, 99]
abbrev dktX0_puts_0 : List UInt8 := dkwX0_puts_0 ++ dktX0_puts_1
theorem dksX0_puts_0 : cX0_puts.data.toList.drop 0 = dktX0_puts_0 := by decide +kernel
theorem dksX0_puts_1 : cX0_puts.data.toList.drop 24 = dktX0_puts_1 := dk_seg dksX0_puts_0 24 rfl rfl
theorem dX0_puts_0 : decode cX0_puts 0 = .ok (.iload_n 1, 1) := dk_27 (dk_at dksX0_puts_0 0 rfl rfl)
theorem dX0_puts_1 : decode cX0_puts 1 = .ok (.iconst (-1), 1) := dk_2 (dk_at dksX0_puts_0 1 rfl rfl)
theorem dX0_puts_2 : decode cX0_puts 2 = .ok (.if_icmp .ne 16, 3) := dk_160 0 16 (dk_at dksX0_puts_0 2 rfl rfl)
theorem dX0_puts_5 : decode cX0_puts 5 = .ok (.aload_n 0, 1) := dk_42 (dk_at dksX0_puts_0 5 rfl rfl)
theorem dX0_puts_6 : decode cX0_puts 6 = .ok (.aload_n 2, 1) := dk_44 (dk_at dksX0_puts_0 6 rfl rfl)
theorem dX0_puts_7 : decode cX0_puts 7 = .ok (.invokevirtual 92, 3) := dk_182 0 92 (dk_at dksX0_puts_0 7 rfl rfl)
theorem dX0_puts_10 : decode cX0_puts 10 = .ok (.pop, 1) := dk_87 (dk_at dksX0_puts_0 10 rfl rfl)
theorem dX0_puts_11 : decode cX0_puts 11 = .ok (.aload_n 0, 1) := dk_42 (dk_at dksX0_puts_0 11 rfl rfl)
theorem dX0_puts_12 : decode cX0_puts 12 = .ok (.invokevirtual 96, 3) := dk_182 0 96 (dk_at dksX0_puts_0 12 rfl rfl)
theorem dX0_puts_15 : decode cX0_puts 15 = .ok (.iconst 1, 1) := dk_4 (dk_at dksX0_puts_0 15 rfl rfl)
theorem dX0_puts_16 : decode cX0_puts 16 = .ok (.isub, 1) := dk_100 (dk_at dksX0_puts_0 16 rfl rfl)
theorem dX0_puts_17 : decode cX0_puts 17 = .ok (.ireturn, 1) := dk_172 (dk_at dksX0_puts_0 17 rfl rfl)
theorem dX0_puts_18 : decode cX0_puts 18 = .ok (.aload_n 0, 1) := dk_42 (dk_at dksX0_puts_0 18 rfl rfl)
theorem dX0_puts_19 : decode cX0_puts 19 = .ok (.iload_n 1, 1) := dk_27 (dk_at dksX0_puts_0 19 rfl rfl)
theorem dX0_puts_20 : decode cX0_puts 20 = .ok (.aload_n 2, 1) := dk_44 (dk_at dksX0_puts_0 20 rfl rfl)
theorem dX0_puts_21 : decode cX0_puts 21 = .ok (.invokevirtual 99, 3) := dk_182 0 99 (dk_at dksX0_puts_0 21 rfl rfl)
theorem dX0_puts_24 : decode cX0_puts 24 = .ok (.pop, 1) := dk_87 (dk_at dksX0_puts_1 0 rfl rfl)
theorem dX0_puts_25 : decode cX0_puts 25 = .ok (.iload_n 1, 1) := dk_27 (dk_at dksX0_puts_1 1 rfl rfl)
theorem dX0_puts_26 : decode cX0_puts 26 = .ok (.ireturn, 1) := dk_172 (dk_at dksX0_puts_1 2 rfl rfl)
abbrev cX0_fault : ByteArray := prog_1_method_16_code
def yX0_fault : MethodName := ⟨RX0, "fault", "(I)I"⟩
def dkwX0_fault_1 : List UInt8 := [180, 0, 135, 167, 0, 4, 2, 172]
abbrev dktX0_fault_1 : List UInt8 := dkwX0_fault_1 ++ []
def dkwX0_fault_0 : List UInt8 := [27, 154, 0, 13, 42, 180, 0, 45, 180, 0, 132, 167, 0, 19, 27, 4, 160, 0, 13, 42, 180, 0, 45]
abbrev dktX0_fault_0 : List UInt8 := dkwX0_fault_0 ++ dktX0_fault_1
theorem dksX0_fault_0 : cX0_fault.data.toList.drop 0 = dktX0_fault_0 := by decide +kernel
theorem dksX0_fault_1 : cX0_fault.data.toList.drop 23 = dktX0_fault_1 := dk_seg dksX0_fault_0 23 rfl rfl
theorem dX0_fault_0 : decode cX0_fault 0 = .ok (.iload_n 1, 1) := dk_27 (dk_at dksX0_fault_0 0 rfl rfl)
theorem dX0_fault_1 : decode cX0_fault 1 = .ok (.ifCond .ne 13, 3) := dk_154 0 13 (dk_at dksX0_fault_0 1 rfl rfl)
theorem dX0_fault_4 : decode cX0_fault 4 = .ok (.aload_n 0, 1) := dk_42 (dk_at dksX0_fault_0 4 rfl rfl)
theorem dX0_fault_5 : decode cX0_fault 5 = .ok (.getfield 45, 3) := dk_180 0 45 (dk_at dksX0_fault_0 5 rfl rfl)
theorem dX0_fault_8 : decode cX0_fault 8 = .ok (.getfield 132, 3) := dk_180 0 132 (dk_at dksX0_fault_0 8 rfl rfl)
theorem dX0_fault_11 : decode cX0_fault 11 = .ok (.goto 19, 3) := dk_167 0 19 (dk_at dksX0_fault_0 11 rfl rfl)
theorem dX0_fault_14 : decode cX0_fault 14 = .ok (.iload_n 1, 1) := dk_27 (dk_at dksX0_fault_0 14 rfl rfl)
theorem dX0_fault_15 : decode cX0_fault 15 = .ok (.iconst 1, 1) := dk_4 (dk_at dksX0_fault_0 15 rfl rfl)
theorem dX0_fault_16 : decode cX0_fault 16 = .ok (.if_icmp .ne 13, 3) := dk_160 0 13 (dk_at dksX0_fault_0 16 rfl rfl)
theorem dX0_fault_19 : decode cX0_fault 19 = .ok (.aload_n 0, 1) := dk_42 (dk_at dksX0_fault_0 19 rfl rfl)
theorem dX0_fault_20 : decode cX0_fault 20 = .ok (.getfield 45, 3) := dk_180 0 45 (dk_at dksX0_fault_0 20 rfl rfl)
theorem dX0_fault_23 : decode cX0_fault 23 = .ok (.getfield 135, 3) := dk_180 0 135 (dk_at dksX0_fault_1 0 rfl rfl)
theorem dX0_fault_26 : decode cX0_fault 26 = .ok (.goto 4, 3) := dk_167 0 4 (dk_at dksX0_fault_1 3 rfl rfl)
theorem dX0_fault_29 : decode cX0_fault 29 = .ok (.iconst (-1), 1) := dk_2 (dk_at dksX0_fault_1 6 rfl rfl)
theorem dX0_fault_30 : decode cX0_fault 30 = .ok (.ireturn, 1) := dk_172 (dk_at dksX0_fault_1 7 rfl rfl)
abbrev cX0_net : ByteArray := prog_1_method_18_code
def yX0_net : MethodName := ⟨RX0, "net", "(II)I"⟩
def dkwX0_net_11 : List UInt8 := [21, 6, 182, 0, 195, 167, 0, 4, 2, 172]
abbrev dktX0_net_11 : List UInt8 := dkwX0_net_11 ++ []
def dkwX0_net_10 : List UInt8 := [182, 0, 80, 154, 0, 6, 16, 254, 172, 45, 21, 5, 21, 6, 182, 0, 192, 153, 0, 14, 45, 21, 5]
abbrev dktX0_net_10 : List UInt8 := dkwX0_net_10 ++ dktX0_net_11
def dkwX0_net_9 : List UInt8 := [16, 100, 17, 0, 199, 184, 0, 56, 153, 0, 21, 45, 21, 5, 182, 0, 80, 153, 0, 12, 45, 21, 6]
abbrev dktX0_net_9 : List UInt8 := dkwX0_net_9 ++ dktX0_net_10
def dkwX0_net_8 : List UInt8 := [16, 20, 108, 184, 0, 188, 172, 28, 16, 10, 108, 16, 10, 100, 54, 5, 28, 16, 10, 112, 54, 6, 28]
abbrev dktX0_net_8 : List UInt8 := dkwX0_net_8 ++ dktX0_net_9
def dkwX0_net_7 : List UInt8 := [45, 180, 0, 181, 28, 16, 20, 112, 28, 17, 1, 84, 161, 0, 7, 6, 167, 0, 11, 28, 17, 1, 44, 100]
abbrev dktX0_net_7 : List UInt8 := dkwX0_net_7 ++ dktX0_net_8
def dkwX0_net_6 : List UInt8 := [17, 0, 200, 100, 16, 20, 108, 184, 0, 188, 172, 28, 17, 1, 44, 17, 1, 103, 184, 0, 56, 153, 0, 34]
abbrev dktX0_net_6 : List UInt8 := dkwX0_net_6 ++ dktX0_net_7
def dkwX0_net_5 : List UInt8 := [172, 28, 17, 0, 200, 17, 1, 23, 184, 0, 56, 153, 0, 23, 45, 180, 0, 178, 28, 16, 20, 112, 28]
abbrev dktX0_net_5 : List UInt8 := dkwX0_net_5 ++ dktX0_net_6
def dkwX0_net_4 : List UInt8 := [28, 16, 10, 100, 182, 0, 80, 153, 0, 15, 45, 180, 0, 184, 28, 16, 10, 100, 46, 167, 0, 5, 16, 254]
abbrev dktX0_net_4 : List UInt8 := dkwX0_net_4 ++ dktX0_net_5
def dkwX0_net_3 : List UInt8 := [58, 4, 28, 8, 162, 0, 8, 25, 4, 28, 46, 172, 28, 16, 10, 16, 19, 184, 0, 56, 153, 0, 29, 45]
abbrev dktX0_net_3 : List UInt8 := dkwX0_net_3 ++ dktX0_net_4
def dkwX0_net_2 : List UInt8 := [182, 0, 96, 79, 89, 6, 45, 180, 0, 178, 182, 0, 96, 79, 89, 7, 45, 180, 0, 181, 182, 0, 96, 79]
abbrev dktX0_net_2 : List UInt8 := dkwX0_net_2 ++ dktX0_net_3
def dkwX0_net_1 : List UInt8 := [188, 10, 89, 3, 45, 180, 0, 169, 79, 89, 4, 45, 180, 0, 172, 79, 89, 5, 45, 180, 0, 175]
abbrev dktX0_net_1 : List UInt8 := dkwX0_net_1 ++ dktX0_net_2
def dkwX0_net_0 : List UInt8 := [42, 3, 27, 182, 0, 72, 153, 0, 7, 28, 156, 0, 6, 16, 254, 172, 42, 27, 182, 0, 76, 78, 8]
abbrev dktX0_net_0 : List UInt8 := dkwX0_net_0 ++ dktX0_net_1
theorem dksX0_net_0 : cX0_net.data.toList.drop 0 = dktX0_net_0 := by decide +kernel
theorem dksX0_net_1 : cX0_net.data.toList.drop 23 = dktX0_net_1 := dk_seg dksX0_net_0 23 rfl rfl
theorem dksX0_net_2 : cX0_net.data.toList.drop 45 = dktX0_net_2 := dk_seg dksX0_net_1 22 rfl rfl
theorem dksX0_net_3 : cX0_net.data.toList.drop 69 = dktX0_net_3 := dk_seg dksX0_net_2 24 rfl rfl
theorem dksX0_net_4 : cX0_net.data.toList.drop 93 = dktX0_net_4 := dk_seg dksX0_net_3 24 rfl rfl
theorem dksX0_net_5 : cX0_net.data.toList.drop 117 = dktX0_net_5 := dk_seg dksX0_net_4 24 rfl rfl
theorem dksX0_net_6 : cX0_net.data.toList.drop 140 = dktX0_net_6 := dk_seg dksX0_net_5 23 rfl rfl
theorem dksX0_net_7 : cX0_net.data.toList.drop 164 = dktX0_net_7 := dk_seg dksX0_net_6 24 rfl rfl
theorem dksX0_net_8 : cX0_net.data.toList.drop 188 = dktX0_net_8 := dk_seg dksX0_net_7 24 rfl rfl
theorem dksX0_net_9 : cX0_net.data.toList.drop 211 = dktX0_net_9 := dk_seg dksX0_net_8 23 rfl rfl
theorem dksX0_net_10 : cX0_net.data.toList.drop 234 = dktX0_net_10 := dk_seg dksX0_net_9 23 rfl rfl
theorem dksX0_net_11 : cX0_net.data.toList.drop 257 = dktX0_net_11 := dk_seg dksX0_net_10 23 rfl rfl
theorem dX0_net_0 : decode cX0_net 0 = .ok (.aload_n 0, 1) := dk_42 (dk_at dksX0_net_0 0 rfl rfl)
theorem dX0_net_1 : decode cX0_net 1 = .ok (.iconst 0, 1) := dk_3 (dk_at dksX0_net_0 1 rfl rfl)
theorem dX0_net_2 : decode cX0_net 2 = .ok (.iload_n 1, 1) := dk_27 (dk_at dksX0_net_0 2 rfl rfl)
theorem dX0_net_3 : decode cX0_net 3 = .ok (.invokevirtual 72, 3) := dk_182 0 72 (dk_at dksX0_net_0 3 rfl rfl)
theorem dX0_net_6 : decode cX0_net 6 = .ok (.ifCond .eq 7, 3) := dk_153 0 7 (dk_at dksX0_net_0 6 rfl rfl)
theorem dX0_net_9 : decode cX0_net 9 = .ok (.iload_n 2, 1) := dk_28 (dk_at dksX0_net_0 9 rfl rfl)
theorem dX0_net_10 : decode cX0_net 10 = .ok (.ifCond .ge 6, 3) := dk_156 0 6 (dk_at dksX0_net_0 10 rfl rfl)
theorem dX0_net_13 : decode cX0_net 13 = .ok (.bipush (-2), 2) := dk_16 254 (dk_at dksX0_net_0 13 rfl rfl)
theorem dX0_net_15 : decode cX0_net 15 = .ok (.ireturn, 1) := dk_172 (dk_at dksX0_net_0 15 rfl rfl)
theorem dX0_net_16 : decode cX0_net 16 = .ok (.aload_n 0, 1) := dk_42 (dk_at dksX0_net_0 16 rfl rfl)
theorem dX0_net_17 : decode cX0_net 17 = .ok (.iload_n 1, 1) := dk_27 (dk_at dksX0_net_0 17 rfl rfl)
theorem dX0_net_18 : decode cX0_net 18 = .ok (.invokevirtual 76, 3) := dk_182 0 76 (dk_at dksX0_net_0 18 rfl rfl)
theorem dX0_net_21 : decode cX0_net 21 = .ok (.astore_n 3, 1) := dk_78 (dk_at dksX0_net_0 21 rfl rfl)
theorem dX0_net_22 : decode cX0_net 22 = .ok (.iconst 5, 1) := dk_8 (dk_at dksX0_net_0 22 rfl rfl)
theorem dX0_net_23 : decode cX0_net 23 = .ok (.newarray .int, 2) := dk_188_10 (dk_at dksX0_net_1 0 rfl rfl)
theorem dX0_net_25 : decode cX0_net 25 = .ok (.dup, 1) := dk_89 (dk_at dksX0_net_1 2 rfl rfl)
theorem dX0_net_26 : decode cX0_net 26 = .ok (.iconst 0, 1) := dk_3 (dk_at dksX0_net_1 3 rfl rfl)
theorem dX0_net_27 : decode cX0_net 27 = .ok (.aload_n 3, 1) := dk_45 (dk_at dksX0_net_1 4 rfl rfl)
theorem dX0_net_28 : decode cX0_net 28 = .ok (.getfield 169, 3) := dk_180 0 169 (dk_at dksX0_net_1 5 rfl rfl)
theorem dX0_net_31 : decode cX0_net 31 = .ok (.iastore, 1) := dk_79 (dk_at dksX0_net_1 8 rfl rfl)
theorem dX0_net_32 : decode cX0_net 32 = .ok (.dup, 1) := dk_89 (dk_at dksX0_net_1 9 rfl rfl)
theorem dX0_net_33 : decode cX0_net 33 = .ok (.iconst 1, 1) := dk_4 (dk_at dksX0_net_1 10 rfl rfl)
theorem dX0_net_34 : decode cX0_net 34 = .ok (.aload_n 3, 1) := dk_45 (dk_at dksX0_net_1 11 rfl rfl)
theorem dX0_net_35 : decode cX0_net 35 = .ok (.getfield 172, 3) := dk_180 0 172 (dk_at dksX0_net_1 12 rfl rfl)
theorem dX0_net_38 : decode cX0_net 38 = .ok (.iastore, 1) := dk_79 (dk_at dksX0_net_1 15 rfl rfl)
theorem dX0_net_39 : decode cX0_net 39 = .ok (.dup, 1) := dk_89 (dk_at dksX0_net_1 16 rfl rfl)
theorem dX0_net_40 : decode cX0_net 40 = .ok (.iconst 2, 1) := dk_5 (dk_at dksX0_net_1 17 rfl rfl)
theorem dX0_net_41 : decode cX0_net 41 = .ok (.aload_n 3, 1) := dk_45 (dk_at dksX0_net_1 18 rfl rfl)
theorem dX0_net_42 : decode cX0_net 42 = .ok (.getfield 175, 3) := dk_180 0 175 (dk_at dksX0_net_1 19 rfl rfl)
theorem dX0_net_45 : decode cX0_net 45 = .ok (.invokevirtual 96, 3) := dk_182 0 96 (dk_at dksX0_net_2 0 rfl rfl)
theorem dX0_net_48 : decode cX0_net 48 = .ok (.iastore, 1) := dk_79 (dk_at dksX0_net_2 3 rfl rfl)
theorem dX0_net_49 : decode cX0_net 49 = .ok (.dup, 1) := dk_89 (dk_at dksX0_net_2 4 rfl rfl)
theorem dX0_net_50 : decode cX0_net 50 = .ok (.iconst 3, 1) := dk_6 (dk_at dksX0_net_2 5 rfl rfl)
theorem dX0_net_51 : decode cX0_net 51 = .ok (.aload_n 3, 1) := dk_45 (dk_at dksX0_net_2 6 rfl rfl)
theorem dX0_net_52 : decode cX0_net 52 = .ok (.getfield 178, 3) := dk_180 0 178 (dk_at dksX0_net_2 7 rfl rfl)
theorem dX0_net_55 : decode cX0_net 55 = .ok (.invokevirtual 96, 3) := dk_182 0 96 (dk_at dksX0_net_2 10 rfl rfl)
theorem dX0_net_58 : decode cX0_net 58 = .ok (.iastore, 1) := dk_79 (dk_at dksX0_net_2 13 rfl rfl)
theorem dX0_net_59 : decode cX0_net 59 = .ok (.dup, 1) := dk_89 (dk_at dksX0_net_2 14 rfl rfl)
theorem dX0_net_60 : decode cX0_net 60 = .ok (.iconst 4, 1) := dk_7 (dk_at dksX0_net_2 15 rfl rfl)
theorem dX0_net_61 : decode cX0_net 61 = .ok (.aload_n 3, 1) := dk_45 (dk_at dksX0_net_2 16 rfl rfl)
theorem dX0_net_62 : decode cX0_net 62 = .ok (.getfield 181, 3) := dk_180 0 181 (dk_at dksX0_net_2 17 rfl rfl)
theorem dX0_net_65 : decode cX0_net 65 = .ok (.invokevirtual 96, 3) := dk_182 0 96 (dk_at dksX0_net_2 20 rfl rfl)
theorem dX0_net_68 : decode cX0_net 68 = .ok (.iastore, 1) := dk_79 (dk_at dksX0_net_2 23 rfl rfl)
theorem dX0_net_69 : decode cX0_net 69 = .ok (.astore 4, 2) := dk_58 4 (dk_at dksX0_net_3 0 rfl rfl)
theorem dX0_net_71 : decode cX0_net 71 = .ok (.iload_n 2, 1) := dk_28 (dk_at dksX0_net_3 2 rfl rfl)
theorem dX0_net_72 : decode cX0_net 72 = .ok (.iconst 5, 1) := dk_8 (dk_at dksX0_net_3 3 rfl rfl)
theorem dX0_net_73 : decode cX0_net 73 = .ok (.if_icmp .ge 8, 3) := dk_162 0 8 (dk_at dksX0_net_3 4 rfl rfl)
theorem dX0_net_76 : decode cX0_net 76 = .ok (.aload 4, 2) := dk_25 4 (dk_at dksX0_net_3 7 rfl rfl)
theorem dX0_net_78 : decode cX0_net 78 = .ok (.iload_n 2, 1) := dk_28 (dk_at dksX0_net_3 9 rfl rfl)
theorem dX0_net_79 : decode cX0_net 79 = .ok (.iaload, 1) := dk_46 (dk_at dksX0_net_3 10 rfl rfl)
theorem dX0_net_80 : decode cX0_net 80 = .ok (.ireturn, 1) := dk_172 (dk_at dksX0_net_3 11 rfl rfl)
theorem dX0_net_81 : decode cX0_net 81 = .ok (.iload_n 2, 1) := dk_28 (dk_at dksX0_net_3 12 rfl rfl)
theorem dX0_net_82 : decode cX0_net 82 = .ok (.bipush 10, 2) := dk_16 10 (dk_at dksX0_net_3 13 rfl rfl)
theorem dX0_net_84 : decode cX0_net 84 = .ok (.bipush 19, 2) := dk_16 19 (dk_at dksX0_net_3 15 rfl rfl)
theorem dX0_net_86 : decode cX0_net 86 = .ok (.invokestatic 56, 3) := dk_184 0 56 (dk_at dksX0_net_3 17 rfl rfl)
theorem dX0_net_89 : decode cX0_net 89 = .ok (.ifCond .eq 29, 3) := dk_153 0 29 (dk_at dksX0_net_3 20 rfl rfl)
theorem dX0_net_92 : decode cX0_net 92 = .ok (.aload_n 3, 1) := dk_45 (dk_at dksX0_net_3 23 rfl rfl)
theorem dX0_net_93 : decode cX0_net 93 = .ok (.iload_n 2, 1) := dk_28 (dk_at dksX0_net_4 0 rfl rfl)
theorem dX0_net_94 : decode cX0_net 94 = .ok (.bipush 10, 2) := dk_16 10 (dk_at dksX0_net_4 1 rfl rfl)
theorem dX0_net_96 : decode cX0_net 96 = .ok (.isub, 1) := dk_100 (dk_at dksX0_net_4 3 rfl rfl)
theorem dX0_net_97 : decode cX0_net 97 = .ok (.invokevirtual 80, 3) := dk_182 0 80 (dk_at dksX0_net_4 4 rfl rfl)
theorem dX0_net_100 : decode cX0_net 100 = .ok (.ifCond .eq 15, 3) := dk_153 0 15 (dk_at dksX0_net_4 7 rfl rfl)
theorem dX0_net_103 : decode cX0_net 103 = .ok (.aload_n 3, 1) := dk_45 (dk_at dksX0_net_4 10 rfl rfl)
theorem dX0_net_104 : decode cX0_net 104 = .ok (.getfield 184, 3) := dk_180 0 184 (dk_at dksX0_net_4 11 rfl rfl)
theorem dX0_net_107 : decode cX0_net 107 = .ok (.iload_n 2, 1) := dk_28 (dk_at dksX0_net_4 14 rfl rfl)
theorem dX0_net_108 : decode cX0_net 108 = .ok (.bipush 10, 2) := dk_16 10 (dk_at dksX0_net_4 15 rfl rfl)
theorem dX0_net_110 : decode cX0_net 110 = .ok (.isub, 1) := dk_100 (dk_at dksX0_net_4 17 rfl rfl)
theorem dX0_net_111 : decode cX0_net 111 = .ok (.iaload, 1) := dk_46 (dk_at dksX0_net_4 18 rfl rfl)
theorem dX0_net_112 : decode cX0_net 112 = .ok (.goto 5, 3) := dk_167 0 5 (dk_at dksX0_net_4 19 rfl rfl)
theorem dX0_net_115 : decode cX0_net 115 = .ok (.bipush (-2), 2) := dk_16 254 (dk_at dksX0_net_4 22 rfl rfl)
theorem dX0_net_117 : decode cX0_net 117 = .ok (.ireturn, 1) := dk_172 (dk_at dksX0_net_5 0 rfl rfl)
theorem dX0_net_118 : decode cX0_net 118 = .ok (.iload_n 2, 1) := dk_28 (dk_at dksX0_net_5 1 rfl rfl)
theorem dX0_net_119 : decode cX0_net 119 = .ok (.sipush 200, 3) := dk_17 0 200 (dk_at dksX0_net_5 2 rfl rfl)
theorem dX0_net_122 : decode cX0_net 122 = .ok (.sipush 279, 3) := dk_17 1 23 (dk_at dksX0_net_5 5 rfl rfl)
theorem dX0_net_125 : decode cX0_net 125 = .ok (.invokestatic 56, 3) := dk_184 0 56 (dk_at dksX0_net_5 8 rfl rfl)
theorem dX0_net_128 : decode cX0_net 128 = .ok (.ifCond .eq 23, 3) := dk_153 0 23 (dk_at dksX0_net_5 11 rfl rfl)
theorem dX0_net_131 : decode cX0_net 131 = .ok (.aload_n 3, 1) := dk_45 (dk_at dksX0_net_5 14 rfl rfl)
theorem dX0_net_132 : decode cX0_net 132 = .ok (.getfield 178, 3) := dk_180 0 178 (dk_at dksX0_net_5 15 rfl rfl)
theorem dX0_net_135 : decode cX0_net 135 = .ok (.iload_n 2, 1) := dk_28 (dk_at dksX0_net_5 18 rfl rfl)
theorem dX0_net_136 : decode cX0_net 136 = .ok (.bipush 20, 2) := dk_16 20 (dk_at dksX0_net_5 19 rfl rfl)
theorem dX0_net_138 : decode cX0_net 138 = .ok (.irem, 1) := dk_112 (dk_at dksX0_net_5 21 rfl rfl)
theorem dX0_net_139 : decode cX0_net 139 = .ok (.iload_n 2, 1) := dk_28 (dk_at dksX0_net_5 22 rfl rfl)
theorem dX0_net_140 : decode cX0_net 140 = .ok (.sipush 200, 3) := dk_17 0 200 (dk_at dksX0_net_6 0 rfl rfl)
theorem dX0_net_143 : decode cX0_net 143 = .ok (.isub, 1) := dk_100 (dk_at dksX0_net_6 3 rfl rfl)
theorem dX0_net_144 : decode cX0_net 144 = .ok (.bipush 20, 2) := dk_16 20 (dk_at dksX0_net_6 4 rfl rfl)
theorem dX0_net_146 : decode cX0_net 146 = .ok (.idiv, 1) := dk_108 (dk_at dksX0_net_6 6 rfl rfl)
theorem dX0_net_147 : decode cX0_net 147 = .ok (.invokestatic 188, 3) := dk_184 0 188 (dk_at dksX0_net_6 7 rfl rfl)
theorem dX0_net_150 : decode cX0_net 150 = .ok (.ireturn, 1) := dk_172 (dk_at dksX0_net_6 10 rfl rfl)
theorem dX0_net_151 : decode cX0_net 151 = .ok (.iload_n 2, 1) := dk_28 (dk_at dksX0_net_6 11 rfl rfl)
theorem dX0_net_152 : decode cX0_net 152 = .ok (.sipush 300, 3) := dk_17 1 44 (dk_at dksX0_net_6 12 rfl rfl)
theorem dX0_net_155 : decode cX0_net 155 = .ok (.sipush 359, 3) := dk_17 1 103 (dk_at dksX0_net_6 15 rfl rfl)
theorem dX0_net_158 : decode cX0_net 158 = .ok (.invokestatic 56, 3) := dk_184 0 56 (dk_at dksX0_net_6 18 rfl rfl)
theorem dX0_net_161 : decode cX0_net 161 = .ok (.ifCond .eq 34, 3) := dk_153 0 34 (dk_at dksX0_net_6 21 rfl rfl)
theorem dX0_net_164 : decode cX0_net 164 = .ok (.aload_n 3, 1) := dk_45 (dk_at dksX0_net_7 0 rfl rfl)
theorem dX0_net_165 : decode cX0_net 165 = .ok (.getfield 181, 3) := dk_180 0 181 (dk_at dksX0_net_7 1 rfl rfl)
theorem dX0_net_168 : decode cX0_net 168 = .ok (.iload_n 2, 1) := dk_28 (dk_at dksX0_net_7 4 rfl rfl)
theorem dX0_net_169 : decode cX0_net 169 = .ok (.bipush 20, 2) := dk_16 20 (dk_at dksX0_net_7 5 rfl rfl)
theorem dX0_net_171 : decode cX0_net 171 = .ok (.irem, 1) := dk_112 (dk_at dksX0_net_7 7 rfl rfl)
theorem dX0_net_172 : decode cX0_net 172 = .ok (.iload_n 2, 1) := dk_28 (dk_at dksX0_net_7 8 rfl rfl)
theorem dX0_net_173 : decode cX0_net 173 = .ok (.sipush 340, 3) := dk_17 1 84 (dk_at dksX0_net_7 9 rfl rfl)
theorem dX0_net_176 : decode cX0_net 176 = .ok (.if_icmp .lt 7, 3) := dk_161 0 7 (dk_at dksX0_net_7 12 rfl rfl)
theorem dX0_net_179 : decode cX0_net 179 = .ok (.iconst 3, 1) := dk_6 (dk_at dksX0_net_7 15 rfl rfl)
theorem dX0_net_180 : decode cX0_net 180 = .ok (.goto 11, 3) := dk_167 0 11 (dk_at dksX0_net_7 16 rfl rfl)
theorem dX0_net_183 : decode cX0_net 183 = .ok (.iload_n 2, 1) := dk_28 (dk_at dksX0_net_7 19 rfl rfl)
theorem dX0_net_184 : decode cX0_net 184 = .ok (.sipush 300, 3) := dk_17 1 44 (dk_at dksX0_net_7 20 rfl rfl)
theorem dX0_net_187 : decode cX0_net 187 = .ok (.isub, 1) := dk_100 (dk_at dksX0_net_7 23 rfl rfl)
theorem dX0_net_188 : decode cX0_net 188 = .ok (.bipush 20, 2) := dk_16 20 (dk_at dksX0_net_8 0 rfl rfl)
theorem dX0_net_190 : decode cX0_net 190 = .ok (.idiv, 1) := dk_108 (dk_at dksX0_net_8 2 rfl rfl)
theorem dX0_net_191 : decode cX0_net 191 = .ok (.invokestatic 188, 3) := dk_184 0 188 (dk_at dksX0_net_8 3 rfl rfl)
theorem dX0_net_194 : decode cX0_net 194 = .ok (.ireturn, 1) := dk_172 (dk_at dksX0_net_8 6 rfl rfl)
theorem dX0_net_195 : decode cX0_net 195 = .ok (.iload_n 2, 1) := dk_28 (dk_at dksX0_net_8 7 rfl rfl)
theorem dX0_net_196 : decode cX0_net 196 = .ok (.bipush 10, 2) := dk_16 10 (dk_at dksX0_net_8 8 rfl rfl)
theorem dX0_net_198 : decode cX0_net 198 = .ok (.idiv, 1) := dk_108 (dk_at dksX0_net_8 10 rfl rfl)
theorem dX0_net_199 : decode cX0_net 199 = .ok (.bipush 10, 2) := dk_16 10 (dk_at dksX0_net_8 11 rfl rfl)
theorem dX0_net_201 : decode cX0_net 201 = .ok (.isub, 1) := dk_100 (dk_at dksX0_net_8 13 rfl rfl)
theorem dX0_net_202 : decode cX0_net 202 = .ok (.istore 5, 2) := dk_54 5 (dk_at dksX0_net_8 14 rfl rfl)
theorem dX0_net_204 : decode cX0_net 204 = .ok (.iload_n 2, 1) := dk_28 (dk_at dksX0_net_8 16 rfl rfl)
theorem dX0_net_205 : decode cX0_net 205 = .ok (.bipush 10, 2) := dk_16 10 (dk_at dksX0_net_8 17 rfl rfl)
theorem dX0_net_207 : decode cX0_net 207 = .ok (.irem, 1) := dk_112 (dk_at dksX0_net_8 19 rfl rfl)
theorem dX0_net_208 : decode cX0_net 208 = .ok (.istore 6, 2) := dk_54 6 (dk_at dksX0_net_8 20 rfl rfl)
theorem dX0_net_210 : decode cX0_net 210 = .ok (.iload_n 2, 1) := dk_28 (dk_at dksX0_net_8 22 rfl rfl)
theorem dX0_net_211 : decode cX0_net 211 = .ok (.bipush 100, 2) := dk_16 100 (dk_at dksX0_net_9 0 rfl rfl)
theorem dX0_net_213 : decode cX0_net 213 = .ok (.sipush 199, 3) := dk_17 0 199 (dk_at dksX0_net_9 2 rfl rfl)
theorem dX0_net_216 : decode cX0_net 216 = .ok (.invokestatic 56, 3) := dk_184 0 56 (dk_at dksX0_net_9 5 rfl rfl)
theorem dX0_net_219 : decode cX0_net 219 = .ok (.ifCond .eq 21, 3) := dk_153 0 21 (dk_at dksX0_net_9 8 rfl rfl)
theorem dX0_net_222 : decode cX0_net 222 = .ok (.aload_n 3, 1) := dk_45 (dk_at dksX0_net_9 11 rfl rfl)
theorem dX0_net_223 : decode cX0_net 223 = .ok (.iload 5, 2) := dk_21 5 (dk_at dksX0_net_9 12 rfl rfl)
theorem dX0_net_225 : decode cX0_net 225 = .ok (.invokevirtual 80, 3) := dk_182 0 80 (dk_at dksX0_net_9 14 rfl rfl)
theorem dX0_net_228 : decode cX0_net 228 = .ok (.ifCond .eq 12, 3) := dk_153 0 12 (dk_at dksX0_net_9 17 rfl rfl)
theorem dX0_net_231 : decode cX0_net 231 = .ok (.aload_n 3, 1) := dk_45 (dk_at dksX0_net_9 20 rfl rfl)
theorem dX0_net_232 : decode cX0_net 232 = .ok (.iload 6, 2) := dk_21 6 (dk_at dksX0_net_9 21 rfl rfl)
theorem dX0_net_234 : decode cX0_net 234 = .ok (.invokevirtual 80, 3) := dk_182 0 80 (dk_at dksX0_net_10 0 rfl rfl)
theorem dX0_net_237 : decode cX0_net 237 = .ok (.ifCond .ne 6, 3) := dk_154 0 6 (dk_at dksX0_net_10 3 rfl rfl)
theorem dX0_net_240 : decode cX0_net 240 = .ok (.bipush (-2), 2) := dk_16 254 (dk_at dksX0_net_10 6 rfl rfl)
theorem dX0_net_242 : decode cX0_net 242 = .ok (.ireturn, 1) := dk_172 (dk_at dksX0_net_10 8 rfl rfl)
theorem dX0_net_243 : decode cX0_net 243 = .ok (.aload_n 3, 1) := dk_45 (dk_at dksX0_net_10 9 rfl rfl)
theorem dX0_net_244 : decode cX0_net 244 = .ok (.iload 5, 2) := dk_21 5 (dk_at dksX0_net_10 10 rfl rfl)
theorem dX0_net_246 : decode cX0_net 246 = .ok (.iload 6, 2) := dk_21 6 (dk_at dksX0_net_10 12 rfl rfl)
theorem dX0_net_248 : decode cX0_net 248 = .ok (.invokevirtual 192, 3) := dk_182 0 192 (dk_at dksX0_net_10 14 rfl rfl)
theorem dX0_net_251 : decode cX0_net 251 = .ok (.ifCond .eq 14, 3) := dk_153 0 14 (dk_at dksX0_net_10 17 rfl rfl)
theorem dX0_net_254 : decode cX0_net 254 = .ok (.aload_n 3, 1) := dk_45 (dk_at dksX0_net_10 20 rfl rfl)
theorem dX0_net_255 : decode cX0_net 255 = .ok (.iload 5, 2) := dk_21 5 (dk_at dksX0_net_10 21 rfl rfl)
theorem dX0_net_257 : decode cX0_net 257 = .ok (.iload 6, 2) := dk_21 6 (dk_at dksX0_net_11 0 rfl rfl)
theorem dX0_net_259 : decode cX0_net 259 = .ok (.invokevirtual 195, 3) := dk_182 0 195 (dk_at dksX0_net_11 2 rfl rfl)
theorem dX0_net_262 : decode cX0_net 262 = .ok (.goto 4, 3) := dk_167 0 4 (dk_at dksX0_net_11 5 rfl rfl)
theorem dX0_net_265 : decode cX0_net 265 = .ok (.iconst (-1), 1) := dk_2 (dk_at dksX0_net_11 8 rfl rfl)
theorem dX0_net_266 : decode cX0_net 266 = .ok (.ireturn, 1) := dk_172 (dk_at dksX0_net_11 9 rfl rfl)
abbrev cX0_netOf : ByteArray := prog_1_method_9_code
def yX0_netOf : MethodName := ⟨RX0, "netOf", "(I)LAskedNames$Net;"⟩
def dkwX0_netOf_0 : List UInt8 := [42, 180, 0, 45, 180, 0, 60, 27, 182, 0, 64, 192, 0, 70, 176]
abbrev dktX0_netOf_0 : List UInt8 := dkwX0_netOf_0 ++ []
theorem dksX0_netOf_0 : cX0_netOf.data.toList.drop 0 = dktX0_netOf_0 := by decide +kernel
theorem dX0_netOf_0 : decode cX0_netOf 0 = .ok (.aload_n 0, 1) := dk_42 (dk_at dksX0_netOf_0 0 rfl rfl)
theorem dX0_netOf_1 : decode cX0_netOf 1 = .ok (.getfield 45, 3) := dk_180 0 45 (dk_at dksX0_netOf_0 1 rfl rfl)
theorem dX0_netOf_4 : decode cX0_netOf 4 = .ok (.getfield 60, 3) := dk_180 0 60 (dk_at dksX0_netOf_0 4 rfl rfl)
theorem dX0_netOf_7 : decode cX0_netOf 7 = .ok (.iload_n 1, 1) := dk_27 (dk_at dksX0_netOf_0 7 rfl rfl)
theorem dX0_netOf_8 : decode cX0_netOf 8 = .ok (.invokevirtual 64, 3) := dk_182 0 64 (dk_at dksX0_netOf_0 8 rfl rfl)
theorem dX0_netOf_11 : decode cX0_netOf 11 = .ok (.checkcast 70, 3) := dk_192 0 70 (dk_at dksX0_netOf_0 11 rfl rfl)
theorem dX0_netOf_14 : decode cX0_netOf 14 = .ok (.areturn, 1) := dk_176 (dk_at dksX0_netOf_0 14 rfl rfl)
abbrev cX0_told : ByteArray := prog_1_method_17_code
def yX0_told : MethodName := ⟨RX0, "told", "(Ljava/util/ArrayList;II)I"⟩
def dkwX0_told_2 : List UInt8 := [160, 0, 10, 45, 180, 0, 163, 167, 0, 7, 45, 180, 0, 166, 172]
abbrev dktX0_told_2 : List UInt8 := dkwX0_told_2 ++ []
def dkwX0_told_1 : List UInt8 := [45, 180, 0, 152, 167, 0, 34, 28, 4, 160, 0, 13, 45, 180, 0, 155, 184, 0, 159, 167, 0, 19, 28, 5]
abbrev dktX0_told_1 : List UInt8 := dkwX0_told_1 ++ dktX0_told_2
def dkwX0_told_0 : List UInt8 := [27, 42, 182, 0, 96, 161, 0, 6, 16, 254, 172, 42, 27, 182, 0, 64, 192, 0, 150, 78, 28, 154, 0, 10]
abbrev dktX0_told_0 : List UInt8 := dkwX0_told_0 ++ dktX0_told_1
theorem dksX0_told_0 : cX0_told.data.toList.drop 0 = dktX0_told_0 := by decide +kernel
theorem dksX0_told_1 : cX0_told.data.toList.drop 24 = dktX0_told_1 := dk_seg dksX0_told_0 24 rfl rfl
theorem dksX0_told_2 : cX0_told.data.toList.drop 48 = dktX0_told_2 := dk_seg dksX0_told_1 24 rfl rfl
theorem dX0_told_0 : decode cX0_told 0 = .ok (.iload_n 1, 1) := dk_27 (dk_at dksX0_told_0 0 rfl rfl)
theorem dX0_told_1 : decode cX0_told 1 = .ok (.aload_n 0, 1) := dk_42 (dk_at dksX0_told_0 1 rfl rfl)
theorem dX0_told_2 : decode cX0_told 2 = .ok (.invokevirtual 96, 3) := dk_182 0 96 (dk_at dksX0_told_0 2 rfl rfl)
theorem dX0_told_5 : decode cX0_told 5 = .ok (.if_icmp .lt 6, 3) := dk_161 0 6 (dk_at dksX0_told_0 5 rfl rfl)
theorem dX0_told_8 : decode cX0_told 8 = .ok (.bipush (-2), 2) := dk_16 254 (dk_at dksX0_told_0 8 rfl rfl)
theorem dX0_told_10 : decode cX0_told 10 = .ok (.ireturn, 1) := dk_172 (dk_at dksX0_told_0 10 rfl rfl)
theorem dX0_told_11 : decode cX0_told 11 = .ok (.aload_n 0, 1) := dk_42 (dk_at dksX0_told_0 11 rfl rfl)
theorem dX0_told_12 : decode cX0_told 12 = .ok (.iload_n 1, 1) := dk_27 (dk_at dksX0_told_0 12 rfl rfl)
theorem dX0_told_13 : decode cX0_told 13 = .ok (.invokevirtual 64, 3) := dk_182 0 64 (dk_at dksX0_told_0 13 rfl rfl)
theorem dX0_told_16 : decode cX0_told 16 = .ok (.checkcast 150, 3) := dk_192 0 150 (dk_at dksX0_told_0 16 rfl rfl)
theorem dX0_told_19 : decode cX0_told 19 = .ok (.astore_n 3, 1) := dk_78 (dk_at dksX0_told_0 19 rfl rfl)
theorem dX0_told_20 : decode cX0_told 20 = .ok (.iload_n 2, 1) := dk_28 (dk_at dksX0_told_0 20 rfl rfl)
theorem dX0_told_21 : decode cX0_told 21 = .ok (.ifCond .ne 10, 3) := dk_154 0 10 (dk_at dksX0_told_0 21 rfl rfl)
theorem dX0_told_24 : decode cX0_told 24 = .ok (.aload_n 3, 1) := dk_45 (dk_at dksX0_told_1 0 rfl rfl)
theorem dX0_told_25 : decode cX0_told 25 = .ok (.getfield 152, 3) := dk_180 0 152 (dk_at dksX0_told_1 1 rfl rfl)
theorem dX0_told_28 : decode cX0_told 28 = .ok (.goto 34, 3) := dk_167 0 34 (dk_at dksX0_told_1 4 rfl rfl)
theorem dX0_told_31 : decode cX0_told 31 = .ok (.iload_n 2, 1) := dk_28 (dk_at dksX0_told_1 7 rfl rfl)
theorem dX0_told_32 : decode cX0_told 32 = .ok (.iconst 1, 1) := dk_4 (dk_at dksX0_told_1 8 rfl rfl)
theorem dX0_told_33 : decode cX0_told 33 = .ok (.if_icmp .ne 13, 3) := dk_160 0 13 (dk_at dksX0_told_1 9 rfl rfl)
theorem dX0_told_36 : decode cX0_told 36 = .ok (.aload_n 3, 1) := dk_45 (dk_at dksX0_told_1 12 rfl rfl)
theorem dX0_told_37 : decode cX0_told 37 = .ok (.getfield 155, 3) := dk_180 0 155 (dk_at dksX0_told_1 13 rfl rfl)
theorem dX0_told_40 : decode cX0_told 40 = .ok (.invokestatic 159, 3) := dk_184 0 159 (dk_at dksX0_told_1 16 rfl rfl)
theorem dX0_told_43 : decode cX0_told 43 = .ok (.goto 19, 3) := dk_167 0 19 (dk_at dksX0_told_1 19 rfl rfl)
theorem dX0_told_46 : decode cX0_told 46 = .ok (.iload_n 2, 1) := dk_28 (dk_at dksX0_told_1 22 rfl rfl)
theorem dX0_told_47 : decode cX0_told 47 = .ok (.iconst 2, 1) := dk_5 (dk_at dksX0_told_1 23 rfl rfl)
theorem dX0_told_48 : decode cX0_told 48 = .ok (.if_icmp .ne 10, 3) := dk_160 0 10 (dk_at dksX0_told_2 0 rfl rfl)
theorem dX0_told_51 : decode cX0_told 51 = .ok (.aload_n 3, 1) := dk_45 (dk_at dksX0_told_2 3 rfl rfl)
theorem dX0_told_52 : decode cX0_told 52 = .ok (.getfield 163, 3) := dk_180 0 163 (dk_at dksX0_told_2 4 rfl rfl)
theorem dX0_told_55 : decode cX0_told 55 = .ok (.goto 7, 3) := dk_167 0 7 (dk_at dksX0_told_2 7 rfl rfl)
theorem dX0_told_58 : decode cX0_told 58 = .ok (.aload_n 3, 1) := dk_45 (dk_at dksX0_told_2 10 rfl rfl)
theorem dX0_told_59 : decode cX0_told 59 = .ok (.getfield 166, 3) := dk_180 0 166 (dk_at dksX0_told_2 11 rfl rfl)
theorem dX0_told_62 : decode cX0_told 62 = .ok (.ireturn, 1) := dk_172 (dk_at dksX0_told_2 14 rfl rfl)
abbrev cX0_code : ByteArray := prog_1_method_5_code
def yX0_code : MethodName := ⟨RX0, "code", "(Ljava/lang/String;)I"⟩
def dkwX0_code_1 : List UInt8 := [100, 4, 96, 60, 132, 2, 1, 167, 255, 229, 27, 172]
abbrev dktX0_code_1 : List UInt8 := dkwX0_code_1 ++ []
def dkwX0_code_0 : List UInt8 := [3, 60, 3, 61, 28, 42, 182, 0, 13, 162, 0, 25, 16, 27, 27, 104, 42, 28, 182, 0, 19, 96, 16, 97]
abbrev dktX0_code_0 : List UInt8 := dkwX0_code_0 ++ dktX0_code_1
theorem dksX0_code_0 : cX0_code.data.toList.drop 0 = dktX0_code_0 := by decide +kernel
theorem dksX0_code_1 : cX0_code.data.toList.drop 24 = dktX0_code_1 := dk_seg dksX0_code_0 24 rfl rfl
theorem dX0_code_0 : decode cX0_code 0 = .ok (.iconst 0, 1) := dk_3 (dk_at dksX0_code_0 0 rfl rfl)
theorem dX0_code_1 : decode cX0_code 1 = .ok (.istore_n 1, 1) := dk_60 (dk_at dksX0_code_0 1 rfl rfl)
theorem dX0_code_2 : decode cX0_code 2 = .ok (.iconst 0, 1) := dk_3 (dk_at dksX0_code_0 2 rfl rfl)
theorem dX0_code_3 : decode cX0_code 3 = .ok (.istore_n 2, 1) := dk_61 (dk_at dksX0_code_0 3 rfl rfl)
theorem dX0_code_4 : decode cX0_code 4 = .ok (.iload_n 2, 1) := dk_28 (dk_at dksX0_code_0 4 rfl rfl)
theorem dX0_code_5 : decode cX0_code 5 = .ok (.aload_n 0, 1) := dk_42 (dk_at dksX0_code_0 5 rfl rfl)
theorem dX0_code_6 : decode cX0_code 6 = .ok (.invokevirtual 13, 3) := dk_182 0 13 (dk_at dksX0_code_0 6 rfl rfl)
theorem dX0_code_9 : decode cX0_code 9 = .ok (.if_icmp .ge 25, 3) := dk_162 0 25 (dk_at dksX0_code_0 9 rfl rfl)
theorem dX0_code_12 : decode cX0_code 12 = .ok (.bipush 27, 2) := dk_16 27 (dk_at dksX0_code_0 12 rfl rfl)
theorem dX0_code_14 : decode cX0_code 14 = .ok (.iload_n 1, 1) := dk_27 (dk_at dksX0_code_0 14 rfl rfl)
theorem dX0_code_15 : decode cX0_code 15 = .ok (.imul, 1) := dk_104 (dk_at dksX0_code_0 15 rfl rfl)
theorem dX0_code_16 : decode cX0_code 16 = .ok (.aload_n 0, 1) := dk_42 (dk_at dksX0_code_0 16 rfl rfl)
theorem dX0_code_17 : decode cX0_code 17 = .ok (.iload_n 2, 1) := dk_28 (dk_at dksX0_code_0 17 rfl rfl)
theorem dX0_code_18 : decode cX0_code 18 = .ok (.invokevirtual 19, 3) := dk_182 0 19 (dk_at dksX0_code_0 18 rfl rfl)
theorem dX0_code_21 : decode cX0_code 21 = .ok (.iadd, 1) := dk_96 (dk_at dksX0_code_0 21 rfl rfl)
theorem dX0_code_22 : decode cX0_code 22 = .ok (.bipush 97, 2) := dk_16 97 (dk_at dksX0_code_0 22 rfl rfl)
theorem dX0_code_24 : decode cX0_code 24 = .ok (.isub, 1) := dk_100 (dk_at dksX0_code_1 0 rfl rfl)
theorem dX0_code_25 : decode cX0_code 25 = .ok (.iconst 1, 1) := dk_4 (dk_at dksX0_code_1 1 rfl rfl)
theorem dX0_code_26 : decode cX0_code 26 = .ok (.iadd, 1) := dk_96 (dk_at dksX0_code_1 2 rfl rfl)
theorem dX0_code_27 : decode cX0_code 27 = .ok (.istore_n 1, 1) := dk_60 (dk_at dksX0_code_1 3 rfl rfl)
theorem dX0_code_28 : decode cX0_code 28 = .ok (.iinc 2 1, 3) := dk_132 2 1 (dk_at dksX0_code_1 4 rfl rfl)
theorem dX0_code_31 : decode cX0_code 31 = .ok (.goto (-27), 3) := dk_167 255 229 (dk_at dksX0_code_1 7 rfl rfl)
theorem dX0_code_34 : decode cX0_code 34 = .ok (.iload_n 1, 1) := dk_27 (dk_at dksX0_code_1 10 rfl rfl)
theorem dX0_code_35 : decode cX0_code 35 = .ok (.ireturn, 1) := dk_172 (dk_at dksX0_code_1 11 rfl rfl)
abbrev cX0_table : ByteArray := prog_1_method_19_code
def yX0_table : MethodName := ⟨RX0, "table", "(III)I"⟩
def dkwX0_table_1 : List UInt8 := [182, 0, 76, 28, 182, 0, 200, 167, 0, 16, 42, 27, 182, 0, 76, 28, 182, 0, 203, 167, 0, 4, 2, 172]
abbrev dktX0_table_1 : List UInt8 := dkwX0_table_1 ++ []
def dkwX0_table_0 : List UInt8 := [42, 27, 28, 182, 0, 198, 153, 0, 40, 29, 3, 4, 184, 0, 56, 153, 0, 31, 29, 154, 0, 15, 42, 27]
abbrev dktX0_table_0 : List UInt8 := dkwX0_table_0 ++ dktX0_table_1
theorem dksX0_table_0 : cX0_table.data.toList.drop 0 = dktX0_table_0 := by decide +kernel
theorem dksX0_table_1 : cX0_table.data.toList.drop 24 = dktX0_table_1 := dk_seg dksX0_table_0 24 rfl rfl
theorem dX0_table_0 : decode cX0_table 0 = .ok (.aload_n 0, 1) := dk_42 (dk_at dksX0_table_0 0 rfl rfl)
theorem dX0_table_1 : decode cX0_table 1 = .ok (.iload_n 1, 1) := dk_27 (dk_at dksX0_table_0 1 rfl rfl)
theorem dX0_table_2 : decode cX0_table 2 = .ok (.iload_n 2, 1) := dk_28 (dk_at dksX0_table_0 2 rfl rfl)
theorem dX0_table_3 : decode cX0_table 3 = .ok (.invokevirtual 198, 3) := dk_182 0 198 (dk_at dksX0_table_0 3 rfl rfl)
theorem dX0_table_6 : decode cX0_table 6 = .ok (.ifCond .eq 40, 3) := dk_153 0 40 (dk_at dksX0_table_0 6 rfl rfl)
theorem dX0_table_9 : decode cX0_table 9 = .ok (.iload_n 3, 1) := dk_29 (dk_at dksX0_table_0 9 rfl rfl)
theorem dX0_table_10 : decode cX0_table 10 = .ok (.iconst 0, 1) := dk_3 (dk_at dksX0_table_0 10 rfl rfl)
theorem dX0_table_11 : decode cX0_table 11 = .ok (.iconst 1, 1) := dk_4 (dk_at dksX0_table_0 11 rfl rfl)
theorem dX0_table_12 : decode cX0_table 12 = .ok (.invokestatic 56, 3) := dk_184 0 56 (dk_at dksX0_table_0 12 rfl rfl)
theorem dX0_table_15 : decode cX0_table 15 = .ok (.ifCond .eq 31, 3) := dk_153 0 31 (dk_at dksX0_table_0 15 rfl rfl)
theorem dX0_table_18 : decode cX0_table 18 = .ok (.iload_n 3, 1) := dk_29 (dk_at dksX0_table_0 18 rfl rfl)
theorem dX0_table_19 : decode cX0_table 19 = .ok (.ifCond .ne 15, 3) := dk_154 0 15 (dk_at dksX0_table_0 19 rfl rfl)
theorem dX0_table_22 : decode cX0_table 22 = .ok (.aload_n 0, 1) := dk_42 (dk_at dksX0_table_0 22 rfl rfl)
theorem dX0_table_23 : decode cX0_table 23 = .ok (.iload_n 1, 1) := dk_27 (dk_at dksX0_table_0 23 rfl rfl)
theorem dX0_table_24 : decode cX0_table 24 = .ok (.invokevirtual 76, 3) := dk_182 0 76 (dk_at dksX0_table_1 0 rfl rfl)
theorem dX0_table_27 : decode cX0_table 27 = .ok (.iload_n 2, 1) := dk_28 (dk_at dksX0_table_1 3 rfl rfl)
theorem dX0_table_28 : decode cX0_table 28 = .ok (.invokevirtual 200, 3) := dk_182 0 200 (dk_at dksX0_table_1 4 rfl rfl)
theorem dX0_table_31 : decode cX0_table 31 = .ok (.goto 16, 3) := dk_167 0 16 (dk_at dksX0_table_1 7 rfl rfl)
theorem dX0_table_34 : decode cX0_table 34 = .ok (.aload_n 0, 1) := dk_42 (dk_at dksX0_table_1 10 rfl rfl)
theorem dX0_table_35 : decode cX0_table 35 = .ok (.iload_n 1, 1) := dk_27 (dk_at dksX0_table_1 11 rfl rfl)
theorem dX0_table_36 : decode cX0_table 36 = .ok (.invokevirtual 76, 3) := dk_182 0 76 (dk_at dksX0_table_1 12 rfl rfl)
theorem dX0_table_39 : decode cX0_table 39 = .ok (.iload_n 2, 1) := dk_28 (dk_at dksX0_table_1 15 rfl rfl)
theorem dX0_table_40 : decode cX0_table 40 = .ok (.invokevirtual 203, 3) := dk_182 0 203 (dk_at dksX0_table_1 16 rfl rfl)
theorem dX0_table_43 : decode cX0_table 43 = .ok (.goto 4, 3) := dk_167 0 4 (dk_at dksX0_table_1 19 rfl rfl)
theorem dX0_table_46 : decode cX0_table 46 = .ok (.iconst (-1), 1) := dk_2 (dk_at dksX0_table_1 22 rfl rfl)
theorem dX0_table_47 : decode cX0_table 47 = .ok (.ireturn, 1) := dk_172 (dk_at dksX0_table_1 23 rfl rfl)
abbrev cX0_isNode : ByteArray := prog_1_method_10_code
def yX0_isNode : MethodName := ⟨RX0, "isNode", "(II)Z"⟩
def dkwX0_isNode_1 : List UInt8 := [167, 0, 4, 3, 172]
abbrev dktX0_isNode_1 : List UInt8 := dkwX0_isNode_1 ++ []
def dkwX0_isNode_0 : List UInt8 := [42, 3, 27, 182, 0, 72, 153, 0, 19, 42, 27, 182, 0, 76, 28, 182, 0, 80, 153, 0, 7, 4]
abbrev dktX0_isNode_0 : List UInt8 := dkwX0_isNode_0 ++ dktX0_isNode_1
theorem dksX0_isNode_0 : cX0_isNode.data.toList.drop 0 = dktX0_isNode_0 := by decide +kernel
theorem dksX0_isNode_1 : cX0_isNode.data.toList.drop 22 = dktX0_isNode_1 := dk_seg dksX0_isNode_0 22 rfl rfl
theorem dX0_isNode_0 : decode cX0_isNode 0 = .ok (.aload_n 0, 1) := dk_42 (dk_at dksX0_isNode_0 0 rfl rfl)
theorem dX0_isNode_1 : decode cX0_isNode 1 = .ok (.iconst 0, 1) := dk_3 (dk_at dksX0_isNode_0 1 rfl rfl)
theorem dX0_isNode_2 : decode cX0_isNode 2 = .ok (.iload_n 1, 1) := dk_27 (dk_at dksX0_isNode_0 2 rfl rfl)
theorem dX0_isNode_3 : decode cX0_isNode 3 = .ok (.invokevirtual 72, 3) := dk_182 0 72 (dk_at dksX0_isNode_0 3 rfl rfl)
theorem dX0_isNode_6 : decode cX0_isNode 6 = .ok (.ifCond .eq 19, 3) := dk_153 0 19 (dk_at dksX0_isNode_0 6 rfl rfl)
theorem dX0_isNode_9 : decode cX0_isNode 9 = .ok (.aload_n 0, 1) := dk_42 (dk_at dksX0_isNode_0 9 rfl rfl)
theorem dX0_isNode_10 : decode cX0_isNode 10 = .ok (.iload_n 1, 1) := dk_27 (dk_at dksX0_isNode_0 10 rfl rfl)
theorem dX0_isNode_11 : decode cX0_isNode 11 = .ok (.invokevirtual 76, 3) := dk_182 0 76 (dk_at dksX0_isNode_0 11 rfl rfl)
theorem dX0_isNode_14 : decode cX0_isNode 14 = .ok (.iload_n 2, 1) := dk_28 (dk_at dksX0_isNode_0 14 rfl rfl)
theorem dX0_isNode_15 : decode cX0_isNode 15 = .ok (.invokevirtual 80, 3) := dk_182 0 80 (dk_at dksX0_isNode_0 15 rfl rfl)
theorem dX0_isNode_18 : decode cX0_isNode 18 = .ok (.ifCond .eq 7, 3) := dk_153 0 7 (dk_at dksX0_isNode_0 18 rfl rfl)
theorem dX0_isNode_21 : decode cX0_isNode 21 = .ok (.iconst 1, 1) := dk_4 (dk_at dksX0_isNode_0 21 rfl rfl)
theorem dX0_isNode_22 : decode cX0_isNode 22 = .ok (.goto 4, 3) := dk_167 0 4 (dk_at dksX0_isNode_1 0 rfl rfl)
theorem dX0_isNode_25 : decode cX0_isNode 25 = .ok (.iconst 0, 1) := dk_3 (dk_at dksX0_isNode_1 3 rfl rfl)
theorem dX0_isNode_26 : decode cX0_isNode 26 = .ok (.ireturn, 1) := dk_172 (dk_at dksX0_isNode_1 4 rfl rfl)
abbrev cX0_ways : ByteArray := prog_1_method_20_code
def yX0_ways : MethodName := ⟨RX0, "ways", "(IIIZ)I"⟩
def dkwX0_ways_2 : List UInt8 := [182, 0, 76, 183, 0, 214, 28, 25, 5, 3, 182, 0, 217, 172]
abbrev dktX0_ways_2 : List UInt8 := dkwX0_ways_2 ++ []
def dkwX0_ways_1 : List UInt8 := [153, 0, 17, 42, 27, 182, 0, 76, 28, 25, 5, 182, 0, 208, 167, 0, 22, 187, 0, 212, 89, 42, 27]
abbrev dktX0_ways_1 : List UInt8 := dkwX0_ways_1 ++ dktX0_ways_2
def dkwX0_ways_0 : List UInt8 := [29, 184, 0, 205, 58, 5, 42, 27, 28, 182, 0, 198, 153, 0, 8, 25, 5, 199, 0, 5, 2, 172, 21, 4]
abbrev dktX0_ways_0 : List UInt8 := dkwX0_ways_0 ++ dktX0_ways_1
theorem dksX0_ways_0 : cX0_ways.data.toList.drop 0 = dktX0_ways_0 := by decide +kernel
theorem dksX0_ways_1 : cX0_ways.data.toList.drop 24 = dktX0_ways_1 := dk_seg dksX0_ways_0 24 rfl rfl
theorem dksX0_ways_2 : cX0_ways.data.toList.drop 47 = dktX0_ways_2 := dk_seg dksX0_ways_1 23 rfl rfl
theorem dX0_ways_0 : decode cX0_ways 0 = .ok (.iload_n 3, 1) := dk_29 (dk_at dksX0_ways_0 0 rfl rfl)
theorem dX0_ways_1 : decode cX0_ways 1 = .ok (.invokestatic 205, 3) := dk_184 0 205 (dk_at dksX0_ways_0 1 rfl rfl)
theorem dX0_ways_4 : decode cX0_ways 4 = .ok (.astore 5, 2) := dk_58 5 (dk_at dksX0_ways_0 4 rfl rfl)
theorem dX0_ways_6 : decode cX0_ways 6 = .ok (.aload_n 0, 1) := dk_42 (dk_at dksX0_ways_0 6 rfl rfl)
theorem dX0_ways_7 : decode cX0_ways 7 = .ok (.iload_n 1, 1) := dk_27 (dk_at dksX0_ways_0 7 rfl rfl)
theorem dX0_ways_8 : decode cX0_ways 8 = .ok (.iload_n 2, 1) := dk_28 (dk_at dksX0_ways_0 8 rfl rfl)
theorem dX0_ways_9 : decode cX0_ways 9 = .ok (.invokevirtual 198, 3) := dk_182 0 198 (dk_at dksX0_ways_0 9 rfl rfl)
theorem dX0_ways_12 : decode cX0_ways 12 = .ok (.ifCond .eq 8, 3) := dk_153 0 8 (dk_at dksX0_ways_0 12 rfl rfl)
theorem dX0_ways_15 : decode cX0_ways 15 = .ok (.aload 5, 2) := dk_25 5 (dk_at dksX0_ways_0 15 rfl rfl)
theorem dX0_ways_17 : decode cX0_ways 17 = .ok (.ifnonnull 5, 3) := dk_199 0 5 (dk_at dksX0_ways_0 17 rfl rfl)
theorem dX0_ways_20 : decode cX0_ways 20 = .ok (.iconst (-1), 1) := dk_2 (dk_at dksX0_ways_0 20 rfl rfl)
theorem dX0_ways_21 : decode cX0_ways 21 = .ok (.ireturn, 1) := dk_172 (dk_at dksX0_ways_0 21 rfl rfl)
theorem dX0_ways_22 : decode cX0_ways 22 = .ok (.iload 4, 2) := dk_21 4 (dk_at dksX0_ways_0 22 rfl rfl)
theorem dX0_ways_24 : decode cX0_ways 24 = .ok (.ifCond .eq 17, 3) := dk_153 0 17 (dk_at dksX0_ways_1 0 rfl rfl)
theorem dX0_ways_27 : decode cX0_ways 27 = .ok (.aload_n 0, 1) := dk_42 (dk_at dksX0_ways_1 3 rfl rfl)
theorem dX0_ways_28 : decode cX0_ways 28 = .ok (.iload_n 1, 1) := dk_27 (dk_at dksX0_ways_1 4 rfl rfl)
theorem dX0_ways_29 : decode cX0_ways 29 = .ok (.invokevirtual 76, 3) := dk_182 0 76 (dk_at dksX0_ways_1 5 rfl rfl)
theorem dX0_ways_32 : decode cX0_ways 32 = .ok (.iload_n 2, 1) := dk_28 (dk_at dksX0_ways_1 8 rfl rfl)
theorem dX0_ways_33 : decode cX0_ways 33 = .ok (.aload 5, 2) := dk_25 5 (dk_at dksX0_ways_1 9 rfl rfl)
theorem dX0_ways_35 : decode cX0_ways 35 = .ok (.invokevirtual 208, 3) := dk_182 0 208 (dk_at dksX0_ways_1 11 rfl rfl)
theorem dX0_ways_38 : decode cX0_ways 38 = .ok (.goto 22, 3) := dk_167 0 22 (dk_at dksX0_ways_1 14 rfl rfl)
theorem dX0_ways_41 : decode cX0_ways 41 = .ok (.new 212, 3) := dk_187 0 212 (dk_at dksX0_ways_1 17 rfl rfl)
theorem dX0_ways_44 : decode cX0_ways 44 = .ok (.dup, 1) := dk_89 (dk_at dksX0_ways_1 20 rfl rfl)
theorem dX0_ways_45 : decode cX0_ways 45 = .ok (.aload_n 0, 1) := dk_42 (dk_at dksX0_ways_1 21 rfl rfl)
theorem dX0_ways_46 : decode cX0_ways 46 = .ok (.iload_n 1, 1) := dk_27 (dk_at dksX0_ways_1 22 rfl rfl)
theorem dX0_ways_47 : decode cX0_ways 47 = .ok (.invokevirtual 76, 3) := dk_182 0 76 (dk_at dksX0_ways_2 0 rfl rfl)
theorem dX0_ways_50 : decode cX0_ways 50 = .ok (.invokespecial 214, 3) := dk_183 0 214 (dk_at dksX0_ways_2 3 rfl rfl)
theorem dX0_ways_53 : decode cX0_ways 53 = .ok (.iload_n 2, 1) := dk_28 (dk_at dksX0_ways_2 6 rfl rfl)
theorem dX0_ways_54 : decode cX0_ways 54 = .ok (.aload 5, 2) := dk_25 5 (dk_at dksX0_ways_2 7 rfl rfl)
theorem dX0_ways_56 : decode cX0_ways 56 = .ok (.iconst 0, 1) := dk_3 (dk_at dksX0_ways_2 9 rfl rfl)
theorem dX0_ways_57 : decode cX0_ways 57 = .ok (.invokevirtual 217, 3) := dk_182 0 217 (dk_at dksX0_ways_2 10 rfl rfl)
theorem dX0_ways_60 : decode cX0_ways 60 = .ok (.ireturn, 1) := dk_172 (dk_at dksX0_ways_2 13 rfl rfl)
abbrev cX0_name : ByteArray := prog_1_method_6_code
def yX0_name : MethodName := ⟨RX0, "name", "(I)Ljava/lang/String;"⟩
def dkwX0_name_4 : List UInt8 := [176]
abbrev dktX0_name_4 : List UInt8 := dkwX0_name_4 ++ []
def dkwX0_name_3 : List UInt8 := [108, 16, 27, 112, 96, 4, 100, 146, 182, 0, 29, 87, 28, 16, 27, 108, 61, 167, 255, 230, 45, 182, 0, 33]
abbrev dktX0_name_3 : List UInt8 := dkwX0_name_3 ++ dktX0_name_4
def dkwX0_name_2 : List UInt8 := [27, 154, 0, 5, 1, 176, 187, 0, 23, 89, 7, 183, 0, 25, 78, 28, 158, 0, 28, 45, 16, 97, 26, 28]
abbrev dktX0_name_2 : List UInt8 := dkwX0_name_2 ++ dktX0_name_3
def dkwX0_name_1 : List UInt8 := [28, 27, 154, 0, 7, 4, 167, 0, 5, 16, 27, 104, 61, 132, 1, 1, 29, 16, 27, 108, 62, 167, 255, 217]
abbrev dktX0_name_1 : List UInt8 := dkwX0_name_1 ++ dktX0_name_2
def dkwX0_name_0 : List UInt8 := [3, 60, 4, 61, 26, 62, 29, 158, 0, 41, 29, 16, 27, 112, 153, 0, 8, 27, 7, 160, 0, 5, 1, 176]
abbrev dktX0_name_0 : List UInt8 := dkwX0_name_0 ++ dktX0_name_1
theorem dksX0_name_0 : cX0_name.data.toList.drop 0 = dktX0_name_0 := by decide +kernel
theorem dksX0_name_1 : cX0_name.data.toList.drop 24 = dktX0_name_1 := dk_seg dksX0_name_0 24 rfl rfl
theorem dksX0_name_2 : cX0_name.data.toList.drop 48 = dktX0_name_2 := dk_seg dksX0_name_1 24 rfl rfl
theorem dksX0_name_3 : cX0_name.data.toList.drop 72 = dktX0_name_3 := dk_seg dksX0_name_2 24 rfl rfl
theorem dksX0_name_4 : cX0_name.data.toList.drop 96 = dktX0_name_4 := dk_seg dksX0_name_3 24 rfl rfl
theorem dX0_name_0 : decode cX0_name 0 = .ok (.iconst 0, 1) := dk_3 (dk_at dksX0_name_0 0 rfl rfl)
theorem dX0_name_1 : decode cX0_name 1 = .ok (.istore_n 1, 1) := dk_60 (dk_at dksX0_name_0 1 rfl rfl)
theorem dX0_name_2 : decode cX0_name 2 = .ok (.iconst 1, 1) := dk_4 (dk_at dksX0_name_0 2 rfl rfl)
theorem dX0_name_3 : decode cX0_name 3 = .ok (.istore_n 2, 1) := dk_61 (dk_at dksX0_name_0 3 rfl rfl)
theorem dX0_name_4 : decode cX0_name 4 = .ok (.iload_n 0, 1) := dk_26 (dk_at dksX0_name_0 4 rfl rfl)
theorem dX0_name_5 : decode cX0_name 5 = .ok (.istore_n 3, 1) := dk_62 (dk_at dksX0_name_0 5 rfl rfl)
theorem dX0_name_6 : decode cX0_name 6 = .ok (.iload_n 3, 1) := dk_29 (dk_at dksX0_name_0 6 rfl rfl)
theorem dX0_name_7 : decode cX0_name 7 = .ok (.ifCond .le 41, 3) := dk_158 0 41 (dk_at dksX0_name_0 7 rfl rfl)
theorem dX0_name_10 : decode cX0_name 10 = .ok (.iload_n 3, 1) := dk_29 (dk_at dksX0_name_0 10 rfl rfl)
theorem dX0_name_11 : decode cX0_name 11 = .ok (.bipush 27, 2) := dk_16 27 (dk_at dksX0_name_0 11 rfl rfl)
theorem dX0_name_13 : decode cX0_name 13 = .ok (.irem, 1) := dk_112 (dk_at dksX0_name_0 13 rfl rfl)
theorem dX0_name_14 : decode cX0_name 14 = .ok (.ifCond .eq 8, 3) := dk_153 0 8 (dk_at dksX0_name_0 14 rfl rfl)
theorem dX0_name_17 : decode cX0_name 17 = .ok (.iload_n 1, 1) := dk_27 (dk_at dksX0_name_0 17 rfl rfl)
theorem dX0_name_18 : decode cX0_name 18 = .ok (.iconst 4, 1) := dk_7 (dk_at dksX0_name_0 18 rfl rfl)
theorem dX0_name_19 : decode cX0_name 19 = .ok (.if_icmp .ne 5, 3) := dk_160 0 5 (dk_at dksX0_name_0 19 rfl rfl)
theorem dX0_name_22 : decode cX0_name 22 = .ok (.aconst_null, 1) := dk_1 (dk_at dksX0_name_0 22 rfl rfl)
theorem dX0_name_23 : decode cX0_name 23 = .ok (.areturn, 1) := dk_176 (dk_at dksX0_name_0 23 rfl rfl)
theorem dX0_name_24 : decode cX0_name 24 = .ok (.iload_n 2, 1) := dk_28 (dk_at dksX0_name_1 0 rfl rfl)
theorem dX0_name_25 : decode cX0_name 25 = .ok (.iload_n 1, 1) := dk_27 (dk_at dksX0_name_1 1 rfl rfl)
theorem dX0_name_26 : decode cX0_name 26 = .ok (.ifCond .ne 7, 3) := dk_154 0 7 (dk_at dksX0_name_1 2 rfl rfl)
theorem dX0_name_29 : decode cX0_name 29 = .ok (.iconst 1, 1) := dk_4 (dk_at dksX0_name_1 5 rfl rfl)
theorem dX0_name_30 : decode cX0_name 30 = .ok (.goto 5, 3) := dk_167 0 5 (dk_at dksX0_name_1 6 rfl rfl)
theorem dX0_name_33 : decode cX0_name 33 = .ok (.bipush 27, 2) := dk_16 27 (dk_at dksX0_name_1 9 rfl rfl)
theorem dX0_name_35 : decode cX0_name 35 = .ok (.imul, 1) := dk_104 (dk_at dksX0_name_1 11 rfl rfl)
theorem dX0_name_36 : decode cX0_name 36 = .ok (.istore_n 2, 1) := dk_61 (dk_at dksX0_name_1 12 rfl rfl)
theorem dX0_name_37 : decode cX0_name 37 = .ok (.iinc 1 1, 3) := dk_132 1 1 (dk_at dksX0_name_1 13 rfl rfl)
theorem dX0_name_40 : decode cX0_name 40 = .ok (.iload_n 3, 1) := dk_29 (dk_at dksX0_name_1 16 rfl rfl)
theorem dX0_name_41 : decode cX0_name 41 = .ok (.bipush 27, 2) := dk_16 27 (dk_at dksX0_name_1 17 rfl rfl)
theorem dX0_name_43 : decode cX0_name 43 = .ok (.idiv, 1) := dk_108 (dk_at dksX0_name_1 19 rfl rfl)
theorem dX0_name_44 : decode cX0_name 44 = .ok (.istore_n 3, 1) := dk_62 (dk_at dksX0_name_1 20 rfl rfl)
theorem dX0_name_45 : decode cX0_name 45 = .ok (.goto (-39), 3) := dk_167 255 217 (dk_at dksX0_name_1 21 rfl rfl)
theorem dX0_name_48 : decode cX0_name 48 = .ok (.iload_n 1, 1) := dk_27 (dk_at dksX0_name_2 0 rfl rfl)
theorem dX0_name_49 : decode cX0_name 49 = .ok (.ifCond .ne 5, 3) := dk_154 0 5 (dk_at dksX0_name_2 1 rfl rfl)
theorem dX0_name_52 : decode cX0_name 52 = .ok (.aconst_null, 1) := dk_1 (dk_at dksX0_name_2 4 rfl rfl)
theorem dX0_name_53 : decode cX0_name 53 = .ok (.areturn, 1) := dk_176 (dk_at dksX0_name_2 5 rfl rfl)
theorem dX0_name_54 : decode cX0_name 54 = .ok (.new 23, 3) := dk_187 0 23 (dk_at dksX0_name_2 6 rfl rfl)
theorem dX0_name_57 : decode cX0_name 57 = .ok (.dup, 1) := dk_89 (dk_at dksX0_name_2 9 rfl rfl)
theorem dX0_name_58 : decode cX0_name 58 = .ok (.iconst 4, 1) := dk_7 (dk_at dksX0_name_2 10 rfl rfl)
theorem dX0_name_59 : decode cX0_name 59 = .ok (.invokespecial 25, 3) := dk_183 0 25 (dk_at dksX0_name_2 11 rfl rfl)
theorem dX0_name_62 : decode cX0_name 62 = .ok (.astore_n 3, 1) := dk_78 (dk_at dksX0_name_2 14 rfl rfl)
theorem dX0_name_63 : decode cX0_name 63 = .ok (.iload_n 2, 1) := dk_28 (dk_at dksX0_name_2 15 rfl rfl)
theorem dX0_name_64 : decode cX0_name 64 = .ok (.ifCond .le 28, 3) := dk_158 0 28 (dk_at dksX0_name_2 16 rfl rfl)
theorem dX0_name_67 : decode cX0_name 67 = .ok (.aload_n 3, 1) := dk_45 (dk_at dksX0_name_2 19 rfl rfl)
theorem dX0_name_68 : decode cX0_name 68 = .ok (.bipush 97, 2) := dk_16 97 (dk_at dksX0_name_2 20 rfl rfl)
theorem dX0_name_70 : decode cX0_name 70 = .ok (.iload_n 0, 1) := dk_26 (dk_at dksX0_name_2 22 rfl rfl)
theorem dX0_name_71 : decode cX0_name 71 = .ok (.iload_n 2, 1) := dk_28 (dk_at dksX0_name_2 23 rfl rfl)
theorem dX0_name_72 : decode cX0_name 72 = .ok (.idiv, 1) := dk_108 (dk_at dksX0_name_3 0 rfl rfl)
theorem dX0_name_73 : decode cX0_name 73 = .ok (.bipush 27, 2) := dk_16 27 (dk_at dksX0_name_3 1 rfl rfl)
theorem dX0_name_75 : decode cX0_name 75 = .ok (.irem, 1) := dk_112 (dk_at dksX0_name_3 3 rfl rfl)
theorem dX0_name_76 : decode cX0_name 76 = .ok (.iadd, 1) := dk_96 (dk_at dksX0_name_3 4 rfl rfl)
theorem dX0_name_77 : decode cX0_name 77 = .ok (.iconst 1, 1) := dk_4 (dk_at dksX0_name_3 5 rfl rfl)
theorem dX0_name_78 : decode cX0_name 78 = .ok (.isub, 1) := dk_100 (dk_at dksX0_name_3 6 rfl rfl)
theorem dX0_name_79 : decode cX0_name 79 = .ok (.i2c, 1) := dk_146 (dk_at dksX0_name_3 7 rfl rfl)
theorem dX0_name_80 : decode cX0_name 80 = .ok (.invokevirtual 29, 3) := dk_182 0 29 (dk_at dksX0_name_3 8 rfl rfl)
theorem dX0_name_83 : decode cX0_name 83 = .ok (.pop, 1) := dk_87 (dk_at dksX0_name_3 11 rfl rfl)
theorem dX0_name_84 : decode cX0_name 84 = .ok (.iload_n 2, 1) := dk_28 (dk_at dksX0_name_3 12 rfl rfl)
theorem dX0_name_85 : decode cX0_name 85 = .ok (.bipush 27, 2) := dk_16 27 (dk_at dksX0_name_3 13 rfl rfl)
theorem dX0_name_87 : decode cX0_name 87 = .ok (.idiv, 1) := dk_108 (dk_at dksX0_name_3 15 rfl rfl)
theorem dX0_name_88 : decode cX0_name 88 = .ok (.istore_n 2, 1) := dk_61 (dk_at dksX0_name_3 16 rfl rfl)
theorem dX0_name_89 : decode cX0_name 89 = .ok (.goto (-26), 3) := dk_167 255 230 (dk_at dksX0_name_3 17 rfl rfl)
theorem dX0_name_92 : decode cX0_name 92 = .ok (.aload_n 3, 1) := dk_45 (dk_at dksX0_name_3 20 rfl rfl)
theorem dX0_name_93 : decode cX0_name 93 = .ok (.invokevirtual 33, 3) := dk_182 0 33 (dk_at dksX0_name_3 21 rfl rfl)
theorem dX0_name_96 : decode cX0_name 96 = .ok (.areturn, 1) := dk_176 (dk_at dksX0_name_4 0 rfl rfl)
abbrev cX0_has : ByteArray := prog_1_method_2_code
def yX0_has : MethodName := ⟨RX0, "has", "(II)Z"⟩
def dkwX0_has_0 : List UInt8 := [26, 27, 122, 4, 126, 4, 160, 0, 7, 4, 167, 0, 4, 3, 172]
abbrev dktX0_has_0 : List UInt8 := dkwX0_has_0 ++ []
theorem dksX0_has_0 : cX0_has.data.toList.drop 0 = dktX0_has_0 := by decide +kernel
theorem dX0_has_0 : decode cX0_has 0 = .ok (.iload_n 0, 1) := dk_26 (dk_at dksX0_has_0 0 rfl rfl)
theorem dX0_has_1 : decode cX0_has 1 = .ok (.iload_n 1, 1) := dk_27 (dk_at dksX0_has_0 1 rfl rfl)
theorem dX0_has_2 : decode cX0_has 2 = .ok (.ishr, 1) := dk_122 (dk_at dksX0_has_0 2 rfl rfl)
theorem dX0_has_3 : decode cX0_has 3 = .ok (.iconst 1, 1) := dk_4 (dk_at dksX0_has_0 3 rfl rfl)
theorem dX0_has_4 : decode cX0_has 4 = .ok (.iand, 1) := dk_126 (dk_at dksX0_has_0 4 rfl rfl)
theorem dX0_has_5 : decode cX0_has 5 = .ok (.iconst 1, 1) := dk_4 (dk_at dksX0_has_0 5 rfl rfl)
theorem dX0_has_6 : decode cX0_has 6 = .ok (.if_icmp .ne 7, 3) := dk_160 0 7 (dk_at dksX0_has_0 6 rfl rfl)
theorem dX0_has_9 : decode cX0_has 9 = .ok (.iconst 1, 1) := dk_4 (dk_at dksX0_has_0 9 rfl rfl)
theorem dX0_has_10 : decode cX0_has 10 = .ok (.goto 4, 3) := dk_167 0 4 (dk_at dksX0_has_0 10 rfl rfl)
theorem dX0_has_13 : decode cX0_has 13 = .ok (.iconst 0, 1) := dk_3 (dk_at dksX0_has_0 13 rfl rfl)
theorem dX0_has_14 : decode cX0_has 14 = .ok (.ireturn, 1) := dk_172 (dk_at dksX0_has_0 14 rfl rfl)
abbrev cX0_trail : ByteArray := prog_1_method_21_code
def yX0_trail : MethodName := ⟨RX0, "trail", "(IIII)I"⟩
def dkwX0_trail_4 : List UInt8 := [167, 0, 4, 2, 172]
abbrev dktX0_trail_4 : List UInt8 := dkwX0_trail_4 ++ []
def dkwX0_trail_3 : List UInt8 := [25, 6, 190, 4, 100, 167, 0, 22, 21, 4, 25, 6, 190, 4, 100, 162, 0, 11, 25, 6, 21, 4, 46]
abbrev dktX0_trail_3 : List UInt8 := dkwX0_trail_3 ++ dktX0_trail_4
def dkwX0_trail_2 : List UInt8 := [58, 6, 21, 4, 16, 20, 160, 0, 12, 25, 6, 25, 6, 190, 4, 100, 46, 172, 21, 4, 2, 160, 0, 11]
abbrev dktX0_trail_2 : List UInt8 := dkwX0_trail_2 ++ dktX0_trail_3
def dkwX0_trail_1 : List UInt8 := [162, 0, 5, 2, 172, 187, 0, 212, 89, 42, 27, 182, 0, 76, 183, 0, 214, 28, 25, 5, 182, 0, 221]
abbrev dktX0_trail_1 : List UInt8 := dkwX0_trail_1 ++ dktX0_trail_2
def dkwX0_trail_0 : List UInt8 := [29, 184, 0, 205, 58, 5, 42, 27, 28, 182, 0, 198, 153, 0, 14, 25, 5, 198, 0, 9, 21, 4, 2]
abbrev dktX0_trail_0 : List UInt8 := dkwX0_trail_0 ++ dktX0_trail_1
theorem dksX0_trail_0 : cX0_trail.data.toList.drop 0 = dktX0_trail_0 := by decide +kernel
theorem dksX0_trail_1 : cX0_trail.data.toList.drop 23 = dktX0_trail_1 := dk_seg dksX0_trail_0 23 rfl rfl
theorem dksX0_trail_2 : cX0_trail.data.toList.drop 46 = dktX0_trail_2 := dk_seg dksX0_trail_1 23 rfl rfl
theorem dksX0_trail_3 : cX0_trail.data.toList.drop 70 = dktX0_trail_3 := dk_seg dksX0_trail_2 24 rfl rfl
theorem dksX0_trail_4 : cX0_trail.data.toList.drop 93 = dktX0_trail_4 := dk_seg dksX0_trail_3 23 rfl rfl
theorem dX0_trail_0 : decode cX0_trail 0 = .ok (.iload_n 3, 1) := dk_29 (dk_at dksX0_trail_0 0 rfl rfl)
theorem dX0_trail_1 : decode cX0_trail 1 = .ok (.invokestatic 205, 3) := dk_184 0 205 (dk_at dksX0_trail_0 1 rfl rfl)
theorem dX0_trail_4 : decode cX0_trail 4 = .ok (.astore 5, 2) := dk_58 5 (dk_at dksX0_trail_0 4 rfl rfl)
theorem dX0_trail_6 : decode cX0_trail 6 = .ok (.aload_n 0, 1) := dk_42 (dk_at dksX0_trail_0 6 rfl rfl)
theorem dX0_trail_7 : decode cX0_trail 7 = .ok (.iload_n 1, 1) := dk_27 (dk_at dksX0_trail_0 7 rfl rfl)
theorem dX0_trail_8 : decode cX0_trail 8 = .ok (.iload_n 2, 1) := dk_28 (dk_at dksX0_trail_0 8 rfl rfl)
theorem dX0_trail_9 : decode cX0_trail 9 = .ok (.invokevirtual 198, 3) := dk_182 0 198 (dk_at dksX0_trail_0 9 rfl rfl)
theorem dX0_trail_12 : decode cX0_trail 12 = .ok (.ifCond .eq 14, 3) := dk_153 0 14 (dk_at dksX0_trail_0 12 rfl rfl)
theorem dX0_trail_15 : decode cX0_trail 15 = .ok (.aload 5, 2) := dk_25 5 (dk_at dksX0_trail_0 15 rfl rfl)
theorem dX0_trail_17 : decode cX0_trail 17 = .ok (.ifnull 9, 3) := dk_198 0 9 (dk_at dksX0_trail_0 17 rfl rfl)
theorem dX0_trail_20 : decode cX0_trail 20 = .ok (.iload 4, 2) := dk_21 4 (dk_at dksX0_trail_0 20 rfl rfl)
theorem dX0_trail_22 : decode cX0_trail 22 = .ok (.iconst (-1), 1) := dk_2 (dk_at dksX0_trail_0 22 rfl rfl)
theorem dX0_trail_23 : decode cX0_trail 23 = .ok (.if_icmp .ge 5, 3) := dk_162 0 5 (dk_at dksX0_trail_1 0 rfl rfl)
theorem dX0_trail_26 : decode cX0_trail 26 = .ok (.iconst (-1), 1) := dk_2 (dk_at dksX0_trail_1 3 rfl rfl)
theorem dX0_trail_27 : decode cX0_trail 27 = .ok (.ireturn, 1) := dk_172 (dk_at dksX0_trail_1 4 rfl rfl)
theorem dX0_trail_28 : decode cX0_trail 28 = .ok (.new 212, 3) := dk_187 0 212 (dk_at dksX0_trail_1 5 rfl rfl)
theorem dX0_trail_31 : decode cX0_trail 31 = .ok (.dup, 1) := dk_89 (dk_at dksX0_trail_1 8 rfl rfl)
theorem dX0_trail_32 : decode cX0_trail 32 = .ok (.aload_n 0, 1) := dk_42 (dk_at dksX0_trail_1 9 rfl rfl)
theorem dX0_trail_33 : decode cX0_trail 33 = .ok (.iload_n 1, 1) := dk_27 (dk_at dksX0_trail_1 10 rfl rfl)
theorem dX0_trail_34 : decode cX0_trail 34 = .ok (.invokevirtual 76, 3) := dk_182 0 76 (dk_at dksX0_trail_1 11 rfl rfl)
theorem dX0_trail_37 : decode cX0_trail 37 = .ok (.invokespecial 214, 3) := dk_183 0 214 (dk_at dksX0_trail_1 14 rfl rfl)
theorem dX0_trail_40 : decode cX0_trail 40 = .ok (.iload_n 2, 1) := dk_28 (dk_at dksX0_trail_1 17 rfl rfl)
theorem dX0_trail_41 : decode cX0_trail 41 = .ok (.aload 5, 2) := dk_25 5 (dk_at dksX0_trail_1 18 rfl rfl)
theorem dX0_trail_43 : decode cX0_trail 43 = .ok (.invokevirtual 221, 3) := dk_182 0 221 (dk_at dksX0_trail_1 20 rfl rfl)
theorem dX0_trail_46 : decode cX0_trail 46 = .ok (.astore 6, 2) := dk_58 6 (dk_at dksX0_trail_2 0 rfl rfl)
theorem dX0_trail_48 : decode cX0_trail 48 = .ok (.iload 4, 2) := dk_21 4 (dk_at dksX0_trail_2 2 rfl rfl)
theorem dX0_trail_50 : decode cX0_trail 50 = .ok (.bipush 20, 2) := dk_16 20 (dk_at dksX0_trail_2 4 rfl rfl)
theorem dX0_trail_52 : decode cX0_trail 52 = .ok (.if_icmp .ne 12, 3) := dk_160 0 12 (dk_at dksX0_trail_2 6 rfl rfl)
theorem dX0_trail_55 : decode cX0_trail 55 = .ok (.aload 6, 2) := dk_25 6 (dk_at dksX0_trail_2 9 rfl rfl)
theorem dX0_trail_57 : decode cX0_trail 57 = .ok (.aload 6, 2) := dk_25 6 (dk_at dksX0_trail_2 11 rfl rfl)
theorem dX0_trail_59 : decode cX0_trail 59 = .ok (.arraylength, 1) := dk_190 (dk_at dksX0_trail_2 13 rfl rfl)
theorem dX0_trail_60 : decode cX0_trail 60 = .ok (.iconst 1, 1) := dk_4 (dk_at dksX0_trail_2 14 rfl rfl)
theorem dX0_trail_61 : decode cX0_trail 61 = .ok (.isub, 1) := dk_100 (dk_at dksX0_trail_2 15 rfl rfl)
theorem dX0_trail_62 : decode cX0_trail 62 = .ok (.iaload, 1) := dk_46 (dk_at dksX0_trail_2 16 rfl rfl)
theorem dX0_trail_63 : decode cX0_trail 63 = .ok (.ireturn, 1) := dk_172 (dk_at dksX0_trail_2 17 rfl rfl)
theorem dX0_trail_64 : decode cX0_trail 64 = .ok (.iload 4, 2) := dk_21 4 (dk_at dksX0_trail_2 18 rfl rfl)
theorem dX0_trail_66 : decode cX0_trail 66 = .ok (.iconst (-1), 1) := dk_2 (dk_at dksX0_trail_2 20 rfl rfl)
theorem dX0_trail_67 : decode cX0_trail 67 = .ok (.if_icmp .ne 11, 3) := dk_160 0 11 (dk_at dksX0_trail_2 21 rfl rfl)
theorem dX0_trail_70 : decode cX0_trail 70 = .ok (.aload 6, 2) := dk_25 6 (dk_at dksX0_trail_3 0 rfl rfl)
theorem dX0_trail_72 : decode cX0_trail 72 = .ok (.arraylength, 1) := dk_190 (dk_at dksX0_trail_3 2 rfl rfl)
theorem dX0_trail_73 : decode cX0_trail 73 = .ok (.iconst 1, 1) := dk_4 (dk_at dksX0_trail_3 3 rfl rfl)
theorem dX0_trail_74 : decode cX0_trail 74 = .ok (.isub, 1) := dk_100 (dk_at dksX0_trail_3 4 rfl rfl)
theorem dX0_trail_75 : decode cX0_trail 75 = .ok (.goto 22, 3) := dk_167 0 22 (dk_at dksX0_trail_3 5 rfl rfl)
theorem dX0_trail_78 : decode cX0_trail 78 = .ok (.iload 4, 2) := dk_21 4 (dk_at dksX0_trail_3 8 rfl rfl)
theorem dX0_trail_80 : decode cX0_trail 80 = .ok (.aload 6, 2) := dk_25 6 (dk_at dksX0_trail_3 10 rfl rfl)
theorem dX0_trail_82 : decode cX0_trail 82 = .ok (.arraylength, 1) := dk_190 (dk_at dksX0_trail_3 12 rfl rfl)
theorem dX0_trail_83 : decode cX0_trail 83 = .ok (.iconst 1, 1) := dk_4 (dk_at dksX0_trail_3 13 rfl rfl)
theorem dX0_trail_84 : decode cX0_trail 84 = .ok (.isub, 1) := dk_100 (dk_at dksX0_trail_3 14 rfl rfl)
theorem dX0_trail_85 : decode cX0_trail 85 = .ok (.if_icmp .ge 11, 3) := dk_162 0 11 (dk_at dksX0_trail_3 15 rfl rfl)
theorem dX0_trail_88 : decode cX0_trail 88 = .ok (.aload 6, 2) := dk_25 6 (dk_at dksX0_trail_3 18 rfl rfl)
theorem dX0_trail_90 : decode cX0_trail 90 = .ok (.iload 4, 2) := dk_21 4 (dk_at dksX0_trail_3 20 rfl rfl)
theorem dX0_trail_92 : decode cX0_trail 92 = .ok (.iaload, 1) := dk_46 (dk_at dksX0_trail_3 22 rfl rfl)
theorem dX0_trail_93 : decode cX0_trail 93 = .ok (.goto 4, 3) := dk_167 0 4 (dk_at dksX0_trail_4 0 rfl rfl)
theorem dX0_trail_96 : decode cX0_trail 96 = .ok (.iconst (-1), 1) := dk_2 (dk_at dksX0_trail_4 3 rfl rfl)
theorem dX0_trail_97 : decode cX0_trail 97 = .ok (.ireturn, 1) := dk_172 (dk_at dksX0_trail_4 4 rfl rfl)
abbrev cX0_far : ByteArray := prog_1_method_22_code
def yX0_far : MethodName := ⟨RX0, "far", "(III)I"⟩
def dkwX0_far_1 : List UInt8 := [29, 182, 0, 225, 167, 0, 4, 2, 172]
abbrev dktX0_far_1 : List UInt8 := dkwX0_far_1 ++ []
def dkwX0_far_0 : List UInt8 := [42, 27, 28, 182, 0, 198, 153, 0, 25, 42, 27, 29, 182, 0, 198, 153, 0, 16, 42, 27, 182, 0, 76, 28]
abbrev dktX0_far_0 : List UInt8 := dkwX0_far_0 ++ dktX0_far_1
theorem dksX0_far_0 : cX0_far.data.toList.drop 0 = dktX0_far_0 := by decide +kernel
theorem dksX0_far_1 : cX0_far.data.toList.drop 24 = dktX0_far_1 := dk_seg dksX0_far_0 24 rfl rfl
theorem dX0_far_0 : decode cX0_far 0 = .ok (.aload_n 0, 1) := dk_42 (dk_at dksX0_far_0 0 rfl rfl)
theorem dX0_far_1 : decode cX0_far 1 = .ok (.iload_n 1, 1) := dk_27 (dk_at dksX0_far_0 1 rfl rfl)
theorem dX0_far_2 : decode cX0_far 2 = .ok (.iload_n 2, 1) := dk_28 (dk_at dksX0_far_0 2 rfl rfl)
theorem dX0_far_3 : decode cX0_far 3 = .ok (.invokevirtual 198, 3) := dk_182 0 198 (dk_at dksX0_far_0 3 rfl rfl)
theorem dX0_far_6 : decode cX0_far 6 = .ok (.ifCond .eq 25, 3) := dk_153 0 25 (dk_at dksX0_far_0 6 rfl rfl)
theorem dX0_far_9 : decode cX0_far 9 = .ok (.aload_n 0, 1) := dk_42 (dk_at dksX0_far_0 9 rfl rfl)
theorem dX0_far_10 : decode cX0_far 10 = .ok (.iload_n 1, 1) := dk_27 (dk_at dksX0_far_0 10 rfl rfl)
theorem dX0_far_11 : decode cX0_far 11 = .ok (.iload_n 3, 1) := dk_29 (dk_at dksX0_far_0 11 rfl rfl)
theorem dX0_far_12 : decode cX0_far 12 = .ok (.invokevirtual 198, 3) := dk_182 0 198 (dk_at dksX0_far_0 12 rfl rfl)
theorem dX0_far_15 : decode cX0_far 15 = .ok (.ifCond .eq 16, 3) := dk_153 0 16 (dk_at dksX0_far_0 15 rfl rfl)
theorem dX0_far_18 : decode cX0_far 18 = .ok (.aload_n 0, 1) := dk_42 (dk_at dksX0_far_0 18 rfl rfl)
theorem dX0_far_19 : decode cX0_far 19 = .ok (.iload_n 1, 1) := dk_27 (dk_at dksX0_far_0 19 rfl rfl)
theorem dX0_far_20 : decode cX0_far 20 = .ok (.invokevirtual 76, 3) := dk_182 0 76 (dk_at dksX0_far_0 20 rfl rfl)
theorem dX0_far_23 : decode cX0_far 23 = .ok (.iload_n 2, 1) := dk_28 (dk_at dksX0_far_0 23 rfl rfl)
theorem dX0_far_24 : decode cX0_far 24 = .ok (.iload_n 3, 1) := dk_29 (dk_at dksX0_far_1 0 rfl rfl)
theorem dX0_far_25 : decode cX0_far 25 = .ok (.invokevirtual 225, 3) := dk_182 0 225 (dk_at dksX0_far_1 1 rfl rfl)
theorem dX0_far_28 : decode cX0_far 28 = .ok (.goto 4, 3) := dk_167 0 4 (dk_at dksX0_far_1 4 rfl rfl)
theorem dX0_far_31 : decode cX0_far 31 = .ok (.iconst (-1), 1) := dk_2 (dk_at dksX0_far_1 7 rfl rfl)
theorem dX0_far_32 : decode cX0_far 32 = .ok (.ireturn, 1) := dk_172 (dk_at dksX0_far_1 8 rfl rfl)
abbrev cX0_edges : ByteArray := prog_1_method_23_code
def yX0_edges : MethodName := ⟨RX0, "edges", "(II)I"⟩
def dkwX0_edges_3 : List UInt8 := [172, 2, 172]
abbrev dktX0_edges_3 : List UInt8 := dkwX0_edges_3 ++ []
def dkwX0_edges_2 : List UInt8 := [45, 182, 0, 228, 172, 45, 182, 0, 231, 172, 45, 182, 0, 234, 172, 45, 182, 0, 237, 172, 45, 182, 0, 240]
abbrev dktX0_edges_2 : List UInt8 := dkwX0_edges_2 ++ dktX0_edges_3
def dkwX0_edges_1 : List UInt8 := [170, 0, 0, 0, 0, 59, 0, 0, 0, 0, 0, 0, 0, 4, 0, 0, 0, 34, 0, 0, 0, 39, 0, 0, 0, 44, 0, 0, 0, 49, 0, 0, 0, 54]
abbrev dktX0_edges_1 : List UInt8 := dkwX0_edges_1 ++ dktX0_edges_2
def dkwX0_edges_0 : List UInt8 := [42, 3, 27, 182, 0, 72, 154, 0, 5, 2, 172, 42, 27, 182, 0, 76, 78, 28]
abbrev dktX0_edges_0 : List UInt8 := dkwX0_edges_0 ++ dktX0_edges_1
theorem dksX0_edges_0 : cX0_edges.data.toList.drop 0 = dktX0_edges_0 := by decide +kernel
theorem dksX0_edges_1 : cX0_edges.data.toList.drop 18 = dktX0_edges_1 := dk_seg dksX0_edges_0 18 rfl rfl
theorem dksX0_edges_2 : cX0_edges.data.toList.drop 52 = dktX0_edges_2 := dk_seg dksX0_edges_1 34 rfl rfl
theorem dksX0_edges_3 : cX0_edges.data.toList.drop 76 = dktX0_edges_3 := dk_seg dksX0_edges_2 24 rfl rfl
theorem dX0_edges_0 : decode cX0_edges 0 = .ok (.aload_n 0, 1) := dk_42 (dk_at dksX0_edges_0 0 rfl rfl)
theorem dX0_edges_1 : decode cX0_edges 1 = .ok (.iconst 0, 1) := dk_3 (dk_at dksX0_edges_0 1 rfl rfl)
theorem dX0_edges_2 : decode cX0_edges 2 = .ok (.iload_n 1, 1) := dk_27 (dk_at dksX0_edges_0 2 rfl rfl)
theorem dX0_edges_3 : decode cX0_edges 3 = .ok (.invokevirtual 72, 3) := dk_182 0 72 (dk_at dksX0_edges_0 3 rfl rfl)
theorem dX0_edges_6 : decode cX0_edges 6 = .ok (.ifCond .ne 5, 3) := dk_154 0 5 (dk_at dksX0_edges_0 6 rfl rfl)
theorem dX0_edges_9 : decode cX0_edges 9 = .ok (.iconst (-1), 1) := dk_2 (dk_at dksX0_edges_0 9 rfl rfl)
theorem dX0_edges_10 : decode cX0_edges 10 = .ok (.ireturn, 1) := dk_172 (dk_at dksX0_edges_0 10 rfl rfl)
theorem dX0_edges_11 : decode cX0_edges 11 = .ok (.aload_n 0, 1) := dk_42 (dk_at dksX0_edges_0 11 rfl rfl)
theorem dX0_edges_12 : decode cX0_edges 12 = .ok (.iload_n 1, 1) := dk_27 (dk_at dksX0_edges_0 12 rfl rfl)
theorem dX0_edges_13 : decode cX0_edges 13 = .ok (.invokevirtual 76, 3) := dk_182 0 76 (dk_at dksX0_edges_0 13 rfl rfl)
theorem dX0_edges_16 : decode cX0_edges 16 = .ok (.astore_n 3, 1) := dk_78 (dk_at dksX0_edges_0 16 rfl rfl)
theorem dX0_edges_17 : decode cX0_edges 17 = .ok (.iload_n 2, 1) := dk_28 (dk_at dksX0_edges_0 17 rfl rfl)
theorem dX0_edges_18 : decode cX0_edges 18 = .ok (.tableswitch 59 0 4 #[34, 39, 44, 49, 54], 34) := by decide +kernel
theorem dX0_edges_52 : decode cX0_edges 52 = .ok (.aload_n 3, 1) := dk_45 (dk_at dksX0_edges_2 0 rfl rfl)
theorem dX0_edges_53 : decode cX0_edges 53 = .ok (.invokevirtual 228, 3) := dk_182 0 228 (dk_at dksX0_edges_2 1 rfl rfl)
theorem dX0_edges_56 : decode cX0_edges 56 = .ok (.ireturn, 1) := dk_172 (dk_at dksX0_edges_2 4 rfl rfl)
theorem dX0_edges_57 : decode cX0_edges 57 = .ok (.aload_n 3, 1) := dk_45 (dk_at dksX0_edges_2 5 rfl rfl)
theorem dX0_edges_58 : decode cX0_edges 58 = .ok (.invokevirtual 231, 3) := dk_182 0 231 (dk_at dksX0_edges_2 6 rfl rfl)
theorem dX0_edges_61 : decode cX0_edges 61 = .ok (.ireturn, 1) := dk_172 (dk_at dksX0_edges_2 9 rfl rfl)
theorem dX0_edges_62 : decode cX0_edges 62 = .ok (.aload_n 3, 1) := dk_45 (dk_at dksX0_edges_2 10 rfl rfl)
theorem dX0_edges_63 : decode cX0_edges 63 = .ok (.invokevirtual 234, 3) := dk_182 0 234 (dk_at dksX0_edges_2 11 rfl rfl)
theorem dX0_edges_66 : decode cX0_edges 66 = .ok (.ireturn, 1) := dk_172 (dk_at dksX0_edges_2 14 rfl rfl)
theorem dX0_edges_67 : decode cX0_edges 67 = .ok (.aload_n 3, 1) := dk_45 (dk_at dksX0_edges_2 15 rfl rfl)
theorem dX0_edges_68 : decode cX0_edges 68 = .ok (.invokevirtual 237, 3) := dk_182 0 237 (dk_at dksX0_edges_2 16 rfl rfl)
theorem dX0_edges_71 : decode cX0_edges 71 = .ok (.ireturn, 1) := dk_172 (dk_at dksX0_edges_2 19 rfl rfl)
theorem dX0_edges_72 : decode cX0_edges 72 = .ok (.aload_n 3, 1) := dk_45 (dk_at dksX0_edges_2 20 rfl rfl)
theorem dX0_edges_73 : decode cX0_edges 73 = .ok (.invokevirtual 240, 3) := dk_182 0 240 (dk_at dksX0_edges_2 21 rfl rfl)
theorem dX0_edges_76 : decode cX0_edges 76 = .ok (.ireturn, 1) := dk_172 (dk_at dksX0_edges_3 0 rfl rfl)
theorem dX0_edges_77 : decode cX0_edges 77 = .ok (.iconst (-1), 1) := dk_2 (dk_at dksX0_edges_3 1 rfl rfl)
theorem dX0_edges_78 : decode cX0_edges 78 = .ok (.ireturn, 1) := dk_172 (dk_at dksX0_edges_3 2 rfl rfl)
abbrev cX0_deed : ByteArray := prog_1_method_24_code
def yX0_deed : MethodName := ⟨RX0, "deed", "(III)I"⟩
def dkwX0_deed_5 : List UInt8 := [182, 1, 1, 153, 0, 14, 25, 5, 180, 1, 5, 184, 0, 159, 167, 0, 8, 25, 5, 180, 1, 6, 172]
abbrev dktX0_deed_5 : List UInt8 := dkwX0_deed_5 ++ []
def dkwX0_deed_4 : List UInt8 := [180, 0, 245, 182, 0, 249, 167, 0, 40, 29, 4, 160, 0, 11, 25, 5, 180, 0, 254, 167, 0, 27, 25, 5]
abbrev dktX0_deed_4 : List UInt8 := dkwX0_deed_4 ++ dktX0_deed_5
def dkwX0_deed_3 : List UInt8 := [154, 0, 6, 16, 254, 172, 25, 4, 28, 182, 0, 64, 192, 0, 243, 58, 5, 29, 154, 0, 14, 25, 5]
abbrev dktX0_deed_3 : List UInt8 := dkwX0_deed_3 ++ dktX0_deed_4
def dkwX0_deed_2 : List UInt8 := [172, 28, 3, 25, 4, 182, 0, 96, 4, 100, 184, 0, 56, 153, 0, 12, 29, 3, 5, 184, 0, 56]
abbrev dktX0_deed_2 : List UInt8 := dkwX0_deed_2 ++ dktX0_deed_3
def dkwX0_deed_1 : List UInt8 := [192, 0, 65, 58, 4, 28, 2, 160, 0, 18, 29, 154, 0, 11, 25, 4, 182, 0, 96, 167, 0, 5, 16, 254]
abbrev dktX0_deed_1 : List UInt8 := dkwX0_deed_1 ++ dktX0_deed_2
def dkwX0_deed_0 : List UInt8 := [42, 4, 27, 182, 0, 72, 154, 0, 6, 16, 254, 172, 42, 180, 0, 45, 180, 0, 116, 27, 182, 0, 64]
abbrev dktX0_deed_0 : List UInt8 := dkwX0_deed_0 ++ dktX0_deed_1
theorem dksX0_deed_0 : cX0_deed.data.toList.drop 0 = dktX0_deed_0 := by decide +kernel
theorem dksX0_deed_1 : cX0_deed.data.toList.drop 23 = dktX0_deed_1 := dk_seg dksX0_deed_0 23 rfl rfl
theorem dksX0_deed_2 : cX0_deed.data.toList.drop 47 = dktX0_deed_2 := dk_seg dksX0_deed_1 24 rfl rfl
theorem dksX0_deed_3 : cX0_deed.data.toList.drop 69 = dktX0_deed_3 := dk_seg dksX0_deed_2 22 rfl rfl
theorem dksX0_deed_4 : cX0_deed.data.toList.drop 92 = dktX0_deed_4 := dk_seg dksX0_deed_3 23 rfl rfl
theorem dksX0_deed_5 : cX0_deed.data.toList.drop 116 = dktX0_deed_5 := dk_seg dksX0_deed_4 24 rfl rfl
theorem dX0_deed_0 : decode cX0_deed 0 = .ok (.aload_n 0, 1) := dk_42 (dk_at dksX0_deed_0 0 rfl rfl)
theorem dX0_deed_1 : decode cX0_deed 1 = .ok (.iconst 1, 1) := dk_4 (dk_at dksX0_deed_0 1 rfl rfl)
theorem dX0_deed_2 : decode cX0_deed 2 = .ok (.iload_n 1, 1) := dk_27 (dk_at dksX0_deed_0 2 rfl rfl)
theorem dX0_deed_3 : decode cX0_deed 3 = .ok (.invokevirtual 72, 3) := dk_182 0 72 (dk_at dksX0_deed_0 3 rfl rfl)
theorem dX0_deed_6 : decode cX0_deed 6 = .ok (.ifCond .ne 6, 3) := dk_154 0 6 (dk_at dksX0_deed_0 6 rfl rfl)
theorem dX0_deed_9 : decode cX0_deed 9 = .ok (.bipush (-2), 2) := dk_16 254 (dk_at dksX0_deed_0 9 rfl rfl)
theorem dX0_deed_11 : decode cX0_deed 11 = .ok (.ireturn, 1) := dk_172 (dk_at dksX0_deed_0 11 rfl rfl)
theorem dX0_deed_12 : decode cX0_deed 12 = .ok (.aload_n 0, 1) := dk_42 (dk_at dksX0_deed_0 12 rfl rfl)
theorem dX0_deed_13 : decode cX0_deed 13 = .ok (.getfield 45, 3) := dk_180 0 45 (dk_at dksX0_deed_0 13 rfl rfl)
theorem dX0_deed_16 : decode cX0_deed 16 = .ok (.getfield 116, 3) := dk_180 0 116 (dk_at dksX0_deed_0 16 rfl rfl)
theorem dX0_deed_19 : decode cX0_deed 19 = .ok (.iload_n 1, 1) := dk_27 (dk_at dksX0_deed_0 19 rfl rfl)
theorem dX0_deed_20 : decode cX0_deed 20 = .ok (.invokevirtual 64, 3) := dk_182 0 64 (dk_at dksX0_deed_0 20 rfl rfl)
theorem dX0_deed_23 : decode cX0_deed 23 = .ok (.checkcast 65, 3) := dk_192 0 65 (dk_at dksX0_deed_1 0 rfl rfl)
theorem dX0_deed_26 : decode cX0_deed 26 = .ok (.astore 4, 2) := dk_58 4 (dk_at dksX0_deed_1 3 rfl rfl)
theorem dX0_deed_28 : decode cX0_deed 28 = .ok (.iload_n 2, 1) := dk_28 (dk_at dksX0_deed_1 5 rfl rfl)
theorem dX0_deed_29 : decode cX0_deed 29 = .ok (.iconst (-1), 1) := dk_2 (dk_at dksX0_deed_1 6 rfl rfl)
theorem dX0_deed_30 : decode cX0_deed 30 = .ok (.if_icmp .ne 18, 3) := dk_160 0 18 (dk_at dksX0_deed_1 7 rfl rfl)
theorem dX0_deed_33 : decode cX0_deed 33 = .ok (.iload_n 3, 1) := dk_29 (dk_at dksX0_deed_1 10 rfl rfl)
theorem dX0_deed_34 : decode cX0_deed 34 = .ok (.ifCond .ne 11, 3) := dk_154 0 11 (dk_at dksX0_deed_1 11 rfl rfl)
theorem dX0_deed_37 : decode cX0_deed 37 = .ok (.aload 4, 2) := dk_25 4 (dk_at dksX0_deed_1 14 rfl rfl)
theorem dX0_deed_39 : decode cX0_deed 39 = .ok (.invokevirtual 96, 3) := dk_182 0 96 (dk_at dksX0_deed_1 16 rfl rfl)
theorem dX0_deed_42 : decode cX0_deed 42 = .ok (.goto 5, 3) := dk_167 0 5 (dk_at dksX0_deed_1 19 rfl rfl)
theorem dX0_deed_45 : decode cX0_deed 45 = .ok (.bipush (-2), 2) := dk_16 254 (dk_at dksX0_deed_1 22 rfl rfl)
theorem dX0_deed_47 : decode cX0_deed 47 = .ok (.ireturn, 1) := dk_172 (dk_at dksX0_deed_2 0 rfl rfl)
theorem dX0_deed_48 : decode cX0_deed 48 = .ok (.iload_n 2, 1) := dk_28 (dk_at dksX0_deed_2 1 rfl rfl)
theorem dX0_deed_49 : decode cX0_deed 49 = .ok (.iconst 0, 1) := dk_3 (dk_at dksX0_deed_2 2 rfl rfl)
theorem dX0_deed_50 : decode cX0_deed 50 = .ok (.aload 4, 2) := dk_25 4 (dk_at dksX0_deed_2 3 rfl rfl)
theorem dX0_deed_52 : decode cX0_deed 52 = .ok (.invokevirtual 96, 3) := dk_182 0 96 (dk_at dksX0_deed_2 5 rfl rfl)
theorem dX0_deed_55 : decode cX0_deed 55 = .ok (.iconst 1, 1) := dk_4 (dk_at dksX0_deed_2 8 rfl rfl)
theorem dX0_deed_56 : decode cX0_deed 56 = .ok (.isub, 1) := dk_100 (dk_at dksX0_deed_2 9 rfl rfl)
theorem dX0_deed_57 : decode cX0_deed 57 = .ok (.invokestatic 56, 3) := dk_184 0 56 (dk_at dksX0_deed_2 10 rfl rfl)
theorem dX0_deed_60 : decode cX0_deed 60 = .ok (.ifCond .eq 12, 3) := dk_153 0 12 (dk_at dksX0_deed_2 13 rfl rfl)
theorem dX0_deed_63 : decode cX0_deed 63 = .ok (.iload_n 3, 1) := dk_29 (dk_at dksX0_deed_2 16 rfl rfl)
theorem dX0_deed_64 : decode cX0_deed 64 = .ok (.iconst 0, 1) := dk_3 (dk_at dksX0_deed_2 17 rfl rfl)
theorem dX0_deed_65 : decode cX0_deed 65 = .ok (.iconst 2, 1) := dk_5 (dk_at dksX0_deed_2 18 rfl rfl)
theorem dX0_deed_66 : decode cX0_deed 66 = .ok (.invokestatic 56, 3) := dk_184 0 56 (dk_at dksX0_deed_2 19 rfl rfl)
theorem dX0_deed_69 : decode cX0_deed 69 = .ok (.ifCond .ne 6, 3) := dk_154 0 6 (dk_at dksX0_deed_3 0 rfl rfl)
theorem dX0_deed_72 : decode cX0_deed 72 = .ok (.bipush (-2), 2) := dk_16 254 (dk_at dksX0_deed_3 3 rfl rfl)
theorem dX0_deed_74 : decode cX0_deed 74 = .ok (.ireturn, 1) := dk_172 (dk_at dksX0_deed_3 5 rfl rfl)
theorem dX0_deed_75 : decode cX0_deed 75 = .ok (.aload 4, 2) := dk_25 4 (dk_at dksX0_deed_3 6 rfl rfl)
theorem dX0_deed_77 : decode cX0_deed 77 = .ok (.iload_n 2, 1) := dk_28 (dk_at dksX0_deed_3 8 rfl rfl)
theorem dX0_deed_78 : decode cX0_deed 78 = .ok (.invokevirtual 64, 3) := dk_182 0 64 (dk_at dksX0_deed_3 9 rfl rfl)
theorem dX0_deed_81 : decode cX0_deed 81 = .ok (.checkcast 243, 3) := dk_192 0 243 (dk_at dksX0_deed_3 12 rfl rfl)
theorem dX0_deed_84 : decode cX0_deed 84 = .ok (.astore 5, 2) := dk_58 5 (dk_at dksX0_deed_3 15 rfl rfl)
theorem dX0_deed_86 : decode cX0_deed 86 = .ok (.iload_n 3, 1) := dk_29 (dk_at dksX0_deed_3 17 rfl rfl)
theorem dX0_deed_87 : decode cX0_deed 87 = .ok (.ifCond .ne 14, 3) := dk_154 0 14 (dk_at dksX0_deed_3 18 rfl rfl)
theorem dX0_deed_90 : decode cX0_deed 90 = .ok (.aload 5, 2) := dk_25 5 (dk_at dksX0_deed_3 21 rfl rfl)
theorem dX0_deed_92 : decode cX0_deed 92 = .ok (.getfield 245, 3) := dk_180 0 245 (dk_at dksX0_deed_4 0 rfl rfl)
theorem dX0_deed_95 : decode cX0_deed 95 = .ok (.invokevirtual 249, 3) := dk_182 0 249 (dk_at dksX0_deed_4 3 rfl rfl)
theorem dX0_deed_98 : decode cX0_deed 98 = .ok (.goto 40, 3) := dk_167 0 40 (dk_at dksX0_deed_4 6 rfl rfl)
theorem dX0_deed_101 : decode cX0_deed 101 = .ok (.iload_n 3, 1) := dk_29 (dk_at dksX0_deed_4 9 rfl rfl)
theorem dX0_deed_102 : decode cX0_deed 102 = .ok (.iconst 1, 1) := dk_4 (dk_at dksX0_deed_4 10 rfl rfl)
theorem dX0_deed_103 : decode cX0_deed 103 = .ok (.if_icmp .ne 11, 3) := dk_160 0 11 (dk_at dksX0_deed_4 11 rfl rfl)
theorem dX0_deed_106 : decode cX0_deed 106 = .ok (.aload 5, 2) := dk_25 5 (dk_at dksX0_deed_4 14 rfl rfl)
theorem dX0_deed_108 : decode cX0_deed 108 = .ok (.getfield 254, 3) := dk_180 0 254 (dk_at dksX0_deed_4 16 rfl rfl)
theorem dX0_deed_111 : decode cX0_deed 111 = .ok (.goto 27, 3) := dk_167 0 27 (dk_at dksX0_deed_4 19 rfl rfl)
theorem dX0_deed_114 : decode cX0_deed 114 = .ok (.aload 5, 2) := dk_25 5 (dk_at dksX0_deed_4 22 rfl rfl)
theorem dX0_deed_116 : decode cX0_deed 116 = .ok (.invokevirtual 257, 3) := dk_182 1 1 (dk_at dksX0_deed_5 0 rfl rfl)
theorem dX0_deed_119 : decode cX0_deed 119 = .ok (.ifCond .eq 14, 3) := dk_153 0 14 (dk_at dksX0_deed_5 3 rfl rfl)
theorem dX0_deed_122 : decode cX0_deed 122 = .ok (.aload 5, 2) := dk_25 5 (dk_at dksX0_deed_5 6 rfl rfl)
theorem dX0_deed_124 : decode cX0_deed 124 = .ok (.getfield 261, 3) := dk_180 1 5 (dk_at dksX0_deed_5 8 rfl rfl)
theorem dX0_deed_127 : decode cX0_deed 127 = .ok (.invokestatic 159, 3) := dk_184 0 159 (dk_at dksX0_deed_5 11 rfl rfl)
theorem dX0_deed_130 : decode cX0_deed 130 = .ok (.goto 8, 3) := dk_167 0 8 (dk_at dksX0_deed_5 14 rfl rfl)
theorem dX0_deed_133 : decode cX0_deed 133 = .ok (.aload 5, 2) := dk_25 5 (dk_at dksX0_deed_5 17 rfl rfl)
theorem dX0_deed_135 : decode cX0_deed 135 = .ok (.getfield 262, 3) := dk_180 1 6 (dk_at dksX0_deed_5 19 rfl rfl)
theorem dX0_deed_138 : decode cX0_deed 138 = .ok (.ireturn, 1) := dk_172 (dk_at dksX0_deed_5 22 rfl rfl)
abbrev cX0_stop : ByteArray := prog_1_method_26_code
def yX0_stop : MethodName := ⟨RX0, "stop", "(II)I"⟩
def dkwX0_stop_1 : List UInt8 := [182, 1, 16, 180, 1, 20, 167, 0, 4, 2, 172]
abbrev dktX0_stop_1 : List UInt8 := dkwX0_stop_1 ++ []
def dkwX0_stop_0 : List UInt8 := [42, 3, 27, 182, 0, 72, 153, 0, 26, 42, 4, 28, 182, 0, 72, 153, 0, 17, 42, 27, 28, 16, 40]
abbrev dktX0_stop_0 : List UInt8 := dkwX0_stop_0 ++ dktX0_stop_1
theorem dksX0_stop_0 : cX0_stop.data.toList.drop 0 = dktX0_stop_0 := by decide +kernel
theorem dksX0_stop_1 : cX0_stop.data.toList.drop 23 = dktX0_stop_1 := dk_seg dksX0_stop_0 23 rfl rfl
theorem dX0_stop_0 : decode cX0_stop 0 = .ok (.aload_n 0, 1) := dk_42 (dk_at dksX0_stop_0 0 rfl rfl)
theorem dX0_stop_1 : decode cX0_stop 1 = .ok (.iconst 0, 1) := dk_3 (dk_at dksX0_stop_0 1 rfl rfl)
theorem dX0_stop_2 : decode cX0_stop 2 = .ok (.iload_n 1, 1) := dk_27 (dk_at dksX0_stop_0 2 rfl rfl)
theorem dX0_stop_3 : decode cX0_stop 3 = .ok (.invokevirtual 72, 3) := dk_182 0 72 (dk_at dksX0_stop_0 3 rfl rfl)
theorem dX0_stop_6 : decode cX0_stop 6 = .ok (.ifCond .eq 26, 3) := dk_153 0 26 (dk_at dksX0_stop_0 6 rfl rfl)
theorem dX0_stop_9 : decode cX0_stop 9 = .ok (.aload_n 0, 1) := dk_42 (dk_at dksX0_stop_0 9 rfl rfl)
theorem dX0_stop_10 : decode cX0_stop 10 = .ok (.iconst 1, 1) := dk_4 (dk_at dksX0_stop_0 10 rfl rfl)
theorem dX0_stop_11 : decode cX0_stop 11 = .ok (.iload_n 2, 1) := dk_28 (dk_at dksX0_stop_0 11 rfl rfl)
theorem dX0_stop_12 : decode cX0_stop 12 = .ok (.invokevirtual 72, 3) := dk_182 0 72 (dk_at dksX0_stop_0 12 rfl rfl)
theorem dX0_stop_15 : decode cX0_stop 15 = .ok (.ifCond .eq 17, 3) := dk_153 0 17 (dk_at dksX0_stop_0 15 rfl rfl)
theorem dX0_stop_18 : decode cX0_stop 18 = .ok (.aload_n 0, 1) := dk_42 (dk_at dksX0_stop_0 18 rfl rfl)
theorem dX0_stop_19 : decode cX0_stop 19 = .ok (.iload_n 1, 1) := dk_27 (dk_at dksX0_stop_0 19 rfl rfl)
theorem dX0_stop_20 : decode cX0_stop 20 = .ok (.iload_n 2, 1) := dk_28 (dk_at dksX0_stop_0 20 rfl rfl)
theorem dX0_stop_21 : decode cX0_stop 21 = .ok (.bipush 40, 2) := dk_16 40 (dk_at dksX0_stop_0 21 rfl rfl)
theorem dX0_stop_23 : decode cX0_stop 23 = .ok (.invokevirtual 272, 3) := dk_182 1 16 (dk_at dksX0_stop_1 0 rfl rfl)
theorem dX0_stop_26 : decode cX0_stop 26 = .ok (.getfield 276, 3) := dk_180 1 20 (dk_at dksX0_stop_1 3 rfl rfl)
theorem dX0_stop_29 : decode cX0_stop 29 = .ok (.goto 4, 3) := dk_167 0 4 (dk_at dksX0_stop_1 6 rfl rfl)
theorem dX0_stop_32 : decode cX0_stop 32 = .ok (.iconst (-1), 1) := dk_2 (dk_at dksX0_stop_1 9 rfl rfl)
theorem dX0_stop_33 : decode cX0_stop 33 = .ok (.ireturn, 1) := dk_172 (dk_at dksX0_stop_1 10 rfl rfl)
abbrev cX0_runOf : ByteArray := prog_1_method_25_code
def yX0_runOf : MethodName := ⟨RX0, "runOf", "(III)LAskedNames$Run;"⟩
def dkwX0_runOf_1 : List UInt8 := [192, 0, 65, 29, 182, 1, 12, 176]
abbrev dktX0_runOf_1 : List UInt8 := dkwX0_runOf_1 ++ []
def dkwX0_runOf_0 : List UInt8 := [187, 1, 9, 89, 42, 27, 182, 0, 76, 183, 1, 11, 42, 180, 0, 45, 180, 0, 116, 28, 182, 0, 64]
abbrev dktX0_runOf_0 : List UInt8 := dkwX0_runOf_0 ++ dktX0_runOf_1
theorem dksX0_runOf_0 : cX0_runOf.data.toList.drop 0 = dktX0_runOf_0 := by decide +kernel
theorem dksX0_runOf_1 : cX0_runOf.data.toList.drop 23 = dktX0_runOf_1 := dk_seg dksX0_runOf_0 23 rfl rfl
theorem dX0_runOf_0 : decode cX0_runOf 0 = .ok (.new 265, 3) := dk_187 1 9 (dk_at dksX0_runOf_0 0 rfl rfl)
theorem dX0_runOf_3 : decode cX0_runOf 3 = .ok (.dup, 1) := dk_89 (dk_at dksX0_runOf_0 3 rfl rfl)
theorem dX0_runOf_4 : decode cX0_runOf 4 = .ok (.aload_n 0, 1) := dk_42 (dk_at dksX0_runOf_0 4 rfl rfl)
theorem dX0_runOf_5 : decode cX0_runOf 5 = .ok (.iload_n 1, 1) := dk_27 (dk_at dksX0_runOf_0 5 rfl rfl)
theorem dX0_runOf_6 : decode cX0_runOf 6 = .ok (.invokevirtual 76, 3) := dk_182 0 76 (dk_at dksX0_runOf_0 6 rfl rfl)
theorem dX0_runOf_9 : decode cX0_runOf 9 = .ok (.invokespecial 267, 3) := dk_183 1 11 (dk_at dksX0_runOf_0 9 rfl rfl)
theorem dX0_runOf_12 : decode cX0_runOf 12 = .ok (.aload_n 0, 1) := dk_42 (dk_at dksX0_runOf_0 12 rfl rfl)
theorem dX0_runOf_13 : decode cX0_runOf 13 = .ok (.getfield 45, 3) := dk_180 0 45 (dk_at dksX0_runOf_0 13 rfl rfl)
theorem dX0_runOf_16 : decode cX0_runOf 16 = .ok (.getfield 116, 3) := dk_180 0 116 (dk_at dksX0_runOf_0 16 rfl rfl)
theorem dX0_runOf_19 : decode cX0_runOf 19 = .ok (.iload_n 2, 1) := dk_28 (dk_at dksX0_runOf_0 19 rfl rfl)
theorem dX0_runOf_20 : decode cX0_runOf 20 = .ok (.invokevirtual 64, 3) := dk_182 0 64 (dk_at dksX0_runOf_0 20 rfl rfl)
theorem dX0_runOf_23 : decode cX0_runOf 23 = .ok (.checkcast 65, 3) := dk_192 0 65 (dk_at dksX0_runOf_1 0 rfl rfl)
theorem dX0_runOf_26 : decode cX0_runOf 26 = .ok (.iload_n 3, 1) := dk_29 (dk_at dksX0_runOf_1 3 rfl rfl)
theorem dX0_runOf_27 : decode cX0_runOf 27 = .ok (.invokevirtual 268, 3) := dk_182 1 12 (dk_at dksX0_runOf_1 4 rfl rfl)
theorem dX0_runOf_30 : decode cX0_runOf 30 = .ok (.areturn, 1) := dk_176 (dk_at dksX0_runOf_1 7 rfl rfl)
abbrev cX0_state : ByteArray := prog_1_method_28_code
def yX0_state : MethodName := ⟨RX0, "state", "(IIII)I"⟩
def dkwX0_state_1 : List UInt8 := [182, 1, 31, 172]
abbrev dktX0_state_1 : List UInt8 := dkwX0_state_1 ++ []
def dkwX0_state_0 : List UInt8 := [42, 27, 28, 29, 182, 1, 27, 58, 5, 25, 5, 199, 0, 8, 16, 254, 167, 0, 10, 25, 5, 21, 4]
abbrev dktX0_state_0 : List UInt8 := dkwX0_state_0 ++ dktX0_state_1
theorem dksX0_state_0 : cX0_state.data.toList.drop 0 = dktX0_state_0 := by decide +kernel
theorem dksX0_state_1 : cX0_state.data.toList.drop 23 = dktX0_state_1 := dk_seg dksX0_state_0 23 rfl rfl
theorem dX0_state_0 : decode cX0_state 0 = .ok (.aload_n 0, 1) := dk_42 (dk_at dksX0_state_0 0 rfl rfl)
theorem dX0_state_1 : decode cX0_state 1 = .ok (.iload_n 1, 1) := dk_27 (dk_at dksX0_state_0 1 rfl rfl)
theorem dX0_state_2 : decode cX0_state 2 = .ok (.iload_n 2, 1) := dk_28 (dk_at dksX0_state_0 2 rfl rfl)
theorem dX0_state_3 : decode cX0_state 3 = .ok (.iload_n 3, 1) := dk_29 (dk_at dksX0_state_0 3 rfl rfl)
theorem dX0_state_4 : decode cX0_state 4 = .ok (.invokevirtual 283, 3) := dk_182 1 27 (dk_at dksX0_state_0 4 rfl rfl)
theorem dX0_state_7 : decode cX0_state 7 = .ok (.astore 5, 2) := dk_58 5 (dk_at dksX0_state_0 7 rfl rfl)
theorem dX0_state_9 : decode cX0_state 9 = .ok (.aload 5, 2) := dk_25 5 (dk_at dksX0_state_0 9 rfl rfl)
theorem dX0_state_11 : decode cX0_state 11 = .ok (.ifnonnull 8, 3) := dk_199 0 8 (dk_at dksX0_state_0 11 rfl rfl)
theorem dX0_state_14 : decode cX0_state 14 = .ok (.bipush (-2), 2) := dk_16 254 (dk_at dksX0_state_0 14 rfl rfl)
theorem dX0_state_16 : decode cX0_state 16 = .ok (.goto 10, 3) := dk_167 0 10 (dk_at dksX0_state_0 16 rfl rfl)
theorem dX0_state_19 : decode cX0_state 19 = .ok (.aload 5, 2) := dk_25 5 (dk_at dksX0_state_0 19 rfl rfl)
theorem dX0_state_21 : decode cX0_state 21 = .ok (.iload 4, 2) := dk_21 4 (dk_at dksX0_state_0 21 rfl rfl)
theorem dX0_state_23 : decode cX0_state 23 = .ok (.invokevirtual 287, 3) := dk_182 1 31 (dk_at dksX0_state_1 0 rfl rfl)
theorem dX0_state_26 : decode cX0_state 26 = .ok (.ireturn, 1) := dk_172 (dk_at dksX0_state_1 3 rfl rfl)
abbrev cX0_goingOf : ByteArray := prog_1_method_27_code
def yX0_goingOf : MethodName := ⟨RX0, "goingOf", "(III)LAskedNames$Going;"⟩
def dkwX0_goingOf_2 : List UInt8 := [167, 0, 4, 1, 176]
abbrev dktX0_goingOf_2 : List UInt8 := dkwX0_goingOf_2 ++ []
def dkwX0_goingOf_1 : List UInt8 := [42, 27, 28, 29, 182, 1, 16, 58, 4, 25, 4, 180, 1, 20, 29, 160, 0, 11, 25, 4, 180, 1, 23]
abbrev dktX0_goingOf_1 : List UInt8 := dkwX0_goingOf_1 ++ dktX0_goingOf_2
def dkwX0_goingOf_0 : List UInt8 := [42, 3, 27, 182, 0, 72, 153, 0, 16, 42, 4, 28, 182, 0, 72, 153, 0, 7, 29, 156, 0, 5, 1, 176]
abbrev dktX0_goingOf_0 : List UInt8 := dkwX0_goingOf_0 ++ dktX0_goingOf_1
theorem dksX0_goingOf_0 : cX0_goingOf.data.toList.drop 0 = dktX0_goingOf_0 := by decide +kernel
theorem dksX0_goingOf_1 : cX0_goingOf.data.toList.drop 24 = dktX0_goingOf_1 := dk_seg dksX0_goingOf_0 24 rfl rfl
theorem dksX0_goingOf_2 : cX0_goingOf.data.toList.drop 47 = dktX0_goingOf_2 := dk_seg dksX0_goingOf_1 23 rfl rfl
theorem dX0_goingOf_0 : decode cX0_goingOf 0 = .ok (.aload_n 0, 1) := dk_42 (dk_at dksX0_goingOf_0 0 rfl rfl)
theorem dX0_goingOf_1 : decode cX0_goingOf 1 = .ok (.iconst 0, 1) := dk_3 (dk_at dksX0_goingOf_0 1 rfl rfl)
theorem dX0_goingOf_2 : decode cX0_goingOf 2 = .ok (.iload_n 1, 1) := dk_27 (dk_at dksX0_goingOf_0 2 rfl rfl)
theorem dX0_goingOf_3 : decode cX0_goingOf 3 = .ok (.invokevirtual 72, 3) := dk_182 0 72 (dk_at dksX0_goingOf_0 3 rfl rfl)
theorem dX0_goingOf_6 : decode cX0_goingOf 6 = .ok (.ifCond .eq 16, 3) := dk_153 0 16 (dk_at dksX0_goingOf_0 6 rfl rfl)
theorem dX0_goingOf_9 : decode cX0_goingOf 9 = .ok (.aload_n 0, 1) := dk_42 (dk_at dksX0_goingOf_0 9 rfl rfl)
theorem dX0_goingOf_10 : decode cX0_goingOf 10 = .ok (.iconst 1, 1) := dk_4 (dk_at dksX0_goingOf_0 10 rfl rfl)
theorem dX0_goingOf_11 : decode cX0_goingOf 11 = .ok (.iload_n 2, 1) := dk_28 (dk_at dksX0_goingOf_0 11 rfl rfl)
theorem dX0_goingOf_12 : decode cX0_goingOf 12 = .ok (.invokevirtual 72, 3) := dk_182 0 72 (dk_at dksX0_goingOf_0 12 rfl rfl)
theorem dX0_goingOf_15 : decode cX0_goingOf 15 = .ok (.ifCond .eq 7, 3) := dk_153 0 7 (dk_at dksX0_goingOf_0 15 rfl rfl)
theorem dX0_goingOf_18 : decode cX0_goingOf 18 = .ok (.iload_n 3, 1) := dk_29 (dk_at dksX0_goingOf_0 18 rfl rfl)
theorem dX0_goingOf_19 : decode cX0_goingOf 19 = .ok (.ifCond .ge 5, 3) := dk_156 0 5 (dk_at dksX0_goingOf_0 19 rfl rfl)
theorem dX0_goingOf_22 : decode cX0_goingOf 22 = .ok (.aconst_null, 1) := dk_1 (dk_at dksX0_goingOf_0 22 rfl rfl)
theorem dX0_goingOf_23 : decode cX0_goingOf 23 = .ok (.areturn, 1) := dk_176 (dk_at dksX0_goingOf_0 23 rfl rfl)
theorem dX0_goingOf_24 : decode cX0_goingOf 24 = .ok (.aload_n 0, 1) := dk_42 (dk_at dksX0_goingOf_1 0 rfl rfl)
theorem dX0_goingOf_25 : decode cX0_goingOf 25 = .ok (.iload_n 1, 1) := dk_27 (dk_at dksX0_goingOf_1 1 rfl rfl)
theorem dX0_goingOf_26 : decode cX0_goingOf 26 = .ok (.iload_n 2, 1) := dk_28 (dk_at dksX0_goingOf_1 2 rfl rfl)
theorem dX0_goingOf_27 : decode cX0_goingOf 27 = .ok (.iload_n 3, 1) := dk_29 (dk_at dksX0_goingOf_1 3 rfl rfl)
theorem dX0_goingOf_28 : decode cX0_goingOf 28 = .ok (.invokevirtual 272, 3) := dk_182 1 16 (dk_at dksX0_goingOf_1 4 rfl rfl)
theorem dX0_goingOf_31 : decode cX0_goingOf 31 = .ok (.astore 4, 2) := dk_58 4 (dk_at dksX0_goingOf_1 7 rfl rfl)
theorem dX0_goingOf_33 : decode cX0_goingOf 33 = .ok (.aload 4, 2) := dk_25 4 (dk_at dksX0_goingOf_1 9 rfl rfl)
theorem dX0_goingOf_35 : decode cX0_goingOf 35 = .ok (.getfield 276, 3) := dk_180 1 20 (dk_at dksX0_goingOf_1 11 rfl rfl)
theorem dX0_goingOf_38 : decode cX0_goingOf 38 = .ok (.iload_n 3, 1) := dk_29 (dk_at dksX0_goingOf_1 14 rfl rfl)
theorem dX0_goingOf_39 : decode cX0_goingOf 39 = .ok (.if_icmp .ne 11, 3) := dk_160 0 11 (dk_at dksX0_goingOf_1 15 rfl rfl)
theorem dX0_goingOf_42 : decode cX0_goingOf 42 = .ok (.aload 4, 2) := dk_25 4 (dk_at dksX0_goingOf_1 18 rfl rfl)
theorem dX0_goingOf_44 : decode cX0_goingOf 44 = .ok (.getfield 279, 3) := dk_180 1 23 (dk_at dksX0_goingOf_1 20 rfl rfl)
theorem dX0_goingOf_47 : decode cX0_goingOf 47 = .ok (.goto 4, 3) := dk_167 0 4 (dk_at dksX0_goingOf_2 0 rfl rfl)
theorem dX0_goingOf_50 : decode cX0_goingOf 50 = .ok (.aconst_null, 1) := dk_1 (dk_at dksX0_goingOf_2 3 rfl rfl)
theorem dX0_goingOf_51 : decode cX0_goingOf 51 = .ok (.areturn, 1) := dk_176 (dk_at dksX0_goingOf_2 4 rfl rfl)
abbrev cX0_stored : ByteArray := prog_1_method_29_code
def yX0_stored : MethodName := ⟨RX0, "stored", "(IIIIII)I"⟩
def dkwX0_stored_5 : List UInt8 := [25, 8, 180, 1, 47, 167, 0, 8, 25, 8, 180, 1, 50, 172]
abbrev dktX0_stored_5 : List UInt8 := dkwX0_stored_5 ++ []
def dkwX0_stored_4 : List UInt8 := [58, 8, 21, 6, 154, 0, 14, 25, 8, 180, 1, 46, 184, 0, 159, 167, 0, 22, 21, 6, 4, 160, 0, 11]
abbrev dktX0_stored_4 : List UInt8 := dkwX0_stored_4 ++ dktX0_stored_5
def dkwX0_stored_3 : List UInt8 := [25, 7, 180, 1, 37, 21, 4, 182, 0, 64, 192, 1, 39, 180, 1, 41, 21, 5, 182, 0, 64, 192, 1, 44]
abbrev dktX0_stored_3 : List UInt8 := dkwX0_stored_3 ++ dktX0_stored_4
def dkwX0_stored_2 : List UInt8 := [182, 0, 96, 4, 100, 184, 0, 56, 153, 0, 13, 21, 6, 3, 5, 184, 0, 56, 154, 0, 5, 2, 172]
abbrev dktX0_stored_2 : List UInt8 := dkwX0_stored_2 ++ dktX0_stored_3
def dkwX0_stored_1 : List UInt8 := [153, 0, 43, 21, 5, 3, 25, 7, 180, 1, 37, 21, 4, 182, 0, 64, 192, 1, 39, 180, 1, 41]
abbrev dktX0_stored_1 : List UInt8 := dkwX0_stored_1 ++ dktX0_stored_2
def dkwX0_stored_0 : List UInt8 := [42, 27, 28, 29, 182, 1, 27, 58, 7, 25, 7, 198, 0, 56, 25, 7, 180, 1, 33, 21, 4, 182, 0, 80]
abbrev dktX0_stored_0 : List UInt8 := dkwX0_stored_0 ++ dktX0_stored_1
theorem dksX0_stored_0 : cX0_stored.data.toList.drop 0 = dktX0_stored_0 := by decide +kernel
theorem dksX0_stored_1 : cX0_stored.data.toList.drop 24 = dktX0_stored_1 := dk_seg dksX0_stored_0 24 rfl rfl
theorem dksX0_stored_2 : cX0_stored.data.toList.drop 46 = dktX0_stored_2 := dk_seg dksX0_stored_1 22 rfl rfl
theorem dksX0_stored_3 : cX0_stored.data.toList.drop 69 = dktX0_stored_3 := dk_seg dksX0_stored_2 23 rfl rfl
theorem dksX0_stored_4 : cX0_stored.data.toList.drop 93 = dktX0_stored_4 := dk_seg dksX0_stored_3 24 rfl rfl
theorem dksX0_stored_5 : cX0_stored.data.toList.drop 117 = dktX0_stored_5 := dk_seg dksX0_stored_4 24 rfl rfl
theorem dX0_stored_0 : decode cX0_stored 0 = .ok (.aload_n 0, 1) := dk_42 (dk_at dksX0_stored_0 0 rfl rfl)
theorem dX0_stored_1 : decode cX0_stored 1 = .ok (.iload_n 1, 1) := dk_27 (dk_at dksX0_stored_0 1 rfl rfl)
theorem dX0_stored_2 : decode cX0_stored 2 = .ok (.iload_n 2, 1) := dk_28 (dk_at dksX0_stored_0 2 rfl rfl)
theorem dX0_stored_3 : decode cX0_stored 3 = .ok (.iload_n 3, 1) := dk_29 (dk_at dksX0_stored_0 3 rfl rfl)
theorem dX0_stored_4 : decode cX0_stored 4 = .ok (.invokevirtual 283, 3) := dk_182 1 27 (dk_at dksX0_stored_0 4 rfl rfl)
theorem dX0_stored_7 : decode cX0_stored 7 = .ok (.astore 7, 2) := dk_58 7 (dk_at dksX0_stored_0 7 rfl rfl)
theorem dX0_stored_9 : decode cX0_stored 9 = .ok (.aload 7, 2) := dk_25 7 (dk_at dksX0_stored_0 9 rfl rfl)
theorem dX0_stored_11 : decode cX0_stored 11 = .ok (.ifnull 56, 3) := dk_198 0 56 (dk_at dksX0_stored_0 11 rfl rfl)
theorem dX0_stored_14 : decode cX0_stored 14 = .ok (.aload 7, 2) := dk_25 7 (dk_at dksX0_stored_0 14 rfl rfl)
theorem dX0_stored_16 : decode cX0_stored 16 = .ok (.getfield 289, 3) := dk_180 1 33 (dk_at dksX0_stored_0 16 rfl rfl)
theorem dX0_stored_19 : decode cX0_stored 19 = .ok (.iload 4, 2) := dk_21 4 (dk_at dksX0_stored_0 19 rfl rfl)
theorem dX0_stored_21 : decode cX0_stored 21 = .ok (.invokevirtual 80, 3) := dk_182 0 80 (dk_at dksX0_stored_0 21 rfl rfl)
theorem dX0_stored_24 : decode cX0_stored 24 = .ok (.ifCond .eq 43, 3) := dk_153 0 43 (dk_at dksX0_stored_1 0 rfl rfl)
theorem dX0_stored_27 : decode cX0_stored 27 = .ok (.iload 5, 2) := dk_21 5 (dk_at dksX0_stored_1 3 rfl rfl)
theorem dX0_stored_29 : decode cX0_stored 29 = .ok (.iconst 0, 1) := dk_3 (dk_at dksX0_stored_1 5 rfl rfl)
theorem dX0_stored_30 : decode cX0_stored 30 = .ok (.aload 7, 2) := dk_25 7 (dk_at dksX0_stored_1 6 rfl rfl)
theorem dX0_stored_32 : decode cX0_stored 32 = .ok (.getfield 293, 3) := dk_180 1 37 (dk_at dksX0_stored_1 8 rfl rfl)
theorem dX0_stored_35 : decode cX0_stored 35 = .ok (.iload 4, 2) := dk_21 4 (dk_at dksX0_stored_1 11 rfl rfl)
theorem dX0_stored_37 : decode cX0_stored 37 = .ok (.invokevirtual 64, 3) := dk_182 0 64 (dk_at dksX0_stored_1 13 rfl rfl)
theorem dX0_stored_40 : decode cX0_stored 40 = .ok (.checkcast 295, 3) := dk_192 1 39 (dk_at dksX0_stored_1 16 rfl rfl)
theorem dX0_stored_43 : decode cX0_stored 43 = .ok (.getfield 297, 3) := dk_180 1 41 (dk_at dksX0_stored_1 19 rfl rfl)
theorem dX0_stored_46 : decode cX0_stored 46 = .ok (.invokevirtual 96, 3) := dk_182 0 96 (dk_at dksX0_stored_2 0 rfl rfl)
theorem dX0_stored_49 : decode cX0_stored 49 = .ok (.iconst 1, 1) := dk_4 (dk_at dksX0_stored_2 3 rfl rfl)
theorem dX0_stored_50 : decode cX0_stored 50 = .ok (.isub, 1) := dk_100 (dk_at dksX0_stored_2 4 rfl rfl)
theorem dX0_stored_51 : decode cX0_stored 51 = .ok (.invokestatic 56, 3) := dk_184 0 56 (dk_at dksX0_stored_2 5 rfl rfl)
theorem dX0_stored_54 : decode cX0_stored 54 = .ok (.ifCond .eq 13, 3) := dk_153 0 13 (dk_at dksX0_stored_2 8 rfl rfl)
theorem dX0_stored_57 : decode cX0_stored 57 = .ok (.iload 6, 2) := dk_21 6 (dk_at dksX0_stored_2 11 rfl rfl)
theorem dX0_stored_59 : decode cX0_stored 59 = .ok (.iconst 0, 1) := dk_3 (dk_at dksX0_stored_2 13 rfl rfl)
theorem dX0_stored_60 : decode cX0_stored 60 = .ok (.iconst 2, 1) := dk_5 (dk_at dksX0_stored_2 14 rfl rfl)
theorem dX0_stored_61 : decode cX0_stored 61 = .ok (.invokestatic 56, 3) := dk_184 0 56 (dk_at dksX0_stored_2 15 rfl rfl)
theorem dX0_stored_64 : decode cX0_stored 64 = .ok (.ifCond .ne 5, 3) := dk_154 0 5 (dk_at dksX0_stored_2 18 rfl rfl)
theorem dX0_stored_67 : decode cX0_stored 67 = .ok (.iconst (-1), 1) := dk_2 (dk_at dksX0_stored_2 21 rfl rfl)
theorem dX0_stored_68 : decode cX0_stored 68 = .ok (.ireturn, 1) := dk_172 (dk_at dksX0_stored_2 22 rfl rfl)
theorem dX0_stored_69 : decode cX0_stored 69 = .ok (.aload 7, 2) := dk_25 7 (dk_at dksX0_stored_3 0 rfl rfl)
theorem dX0_stored_71 : decode cX0_stored 71 = .ok (.getfield 293, 3) := dk_180 1 37 (dk_at dksX0_stored_3 2 rfl rfl)
theorem dX0_stored_74 : decode cX0_stored 74 = .ok (.iload 4, 2) := dk_21 4 (dk_at dksX0_stored_3 5 rfl rfl)
theorem dX0_stored_76 : decode cX0_stored 76 = .ok (.invokevirtual 64, 3) := dk_182 0 64 (dk_at dksX0_stored_3 7 rfl rfl)
theorem dX0_stored_79 : decode cX0_stored 79 = .ok (.checkcast 295, 3) := dk_192 1 39 (dk_at dksX0_stored_3 10 rfl rfl)
theorem dX0_stored_82 : decode cX0_stored 82 = .ok (.getfield 297, 3) := dk_180 1 41 (dk_at dksX0_stored_3 13 rfl rfl)
theorem dX0_stored_85 : decode cX0_stored 85 = .ok (.iload 5, 2) := dk_21 5 (dk_at dksX0_stored_3 16 rfl rfl)
theorem dX0_stored_87 : decode cX0_stored 87 = .ok (.invokevirtual 64, 3) := dk_182 0 64 (dk_at dksX0_stored_3 18 rfl rfl)
theorem dX0_stored_90 : decode cX0_stored 90 = .ok (.checkcast 300, 3) := dk_192 1 44 (dk_at dksX0_stored_3 21 rfl rfl)
theorem dX0_stored_93 : decode cX0_stored 93 = .ok (.astore 8, 2) := dk_58 8 (dk_at dksX0_stored_4 0 rfl rfl)
theorem dX0_stored_95 : decode cX0_stored 95 = .ok (.iload 6, 2) := dk_21 6 (dk_at dksX0_stored_4 2 rfl rfl)
theorem dX0_stored_97 : decode cX0_stored 97 = .ok (.ifCond .ne 14, 3) := dk_154 0 14 (dk_at dksX0_stored_4 4 rfl rfl)
theorem dX0_stored_100 : decode cX0_stored 100 = .ok (.aload 8, 2) := dk_25 8 (dk_at dksX0_stored_4 7 rfl rfl)
theorem dX0_stored_102 : decode cX0_stored 102 = .ok (.getfield 302, 3) := dk_180 1 46 (dk_at dksX0_stored_4 9 rfl rfl)
theorem dX0_stored_105 : decode cX0_stored 105 = .ok (.invokestatic 159, 3) := dk_184 0 159 (dk_at dksX0_stored_4 12 rfl rfl)
theorem dX0_stored_108 : decode cX0_stored 108 = .ok (.goto 22, 3) := dk_167 0 22 (dk_at dksX0_stored_4 15 rfl rfl)
theorem dX0_stored_111 : decode cX0_stored 111 = .ok (.iload 6, 2) := dk_21 6 (dk_at dksX0_stored_4 18 rfl rfl)
theorem dX0_stored_113 : decode cX0_stored 113 = .ok (.iconst 1, 1) := dk_4 (dk_at dksX0_stored_4 20 rfl rfl)
theorem dX0_stored_114 : decode cX0_stored 114 = .ok (.if_icmp .ne 11, 3) := dk_160 0 11 (dk_at dksX0_stored_4 21 rfl rfl)
theorem dX0_stored_117 : decode cX0_stored 117 = .ok (.aload 8, 2) := dk_25 8 (dk_at dksX0_stored_5 0 rfl rfl)
theorem dX0_stored_119 : decode cX0_stored 119 = .ok (.getfield 303, 3) := dk_180 1 47 (dk_at dksX0_stored_5 2 rfl rfl)
theorem dX0_stored_122 : decode cX0_stored 122 = .ok (.goto 8, 3) := dk_167 0 8 (dk_at dksX0_stored_5 5 rfl rfl)
theorem dX0_stored_125 : decode cX0_stored 125 = .ok (.aload 8, 2) := dk_25 8 (dk_at dksX0_stored_5 8 rfl rfl)
theorem dX0_stored_127 : decode cX0_stored 127 = .ok (.getfield 306, 3) := dk_180 1 50 (dk_at dksX0_stored_5 10 rfl rfl)
theorem dX0_stored_130 : decode cX0_stored 130 = .ok (.ireturn, 1) := dk_172 (dk_at dksX0_stored_5 13 rfl rfl)
abbrev cX0_entry : ByteArray := prog_1_method_30_code
def yX0_entry : MethodName := ⟨RX0, "entry", "(IIIIII)I"⟩
def dkwX0_entry_7 : List UInt8 := [25, 8, 180, 1, 77, 79, 58, 9, 25, 9, 21, 6, 46, 172]
abbrev dktX0_entry_7 : List UInt8 := dkwX0_entry_7 ++ []
def dkwX0_entry_6 : List UInt8 := [180, 1, 68, 79, 89, 8, 25, 8, 180, 1, 71, 79, 89, 16, 6, 25, 8, 180, 1, 74, 79, 89, 16, 7]
abbrev dktX0_entry_6 : List UInt8 := dkwX0_entry_6 ++ dktX0_entry_7
def dkwX0_entry_5 : List UInt8 := [79, 89, 5, 25, 8, 180, 1, 62, 79, 89, 6, 25, 8, 180, 1, 65, 182, 0, 96, 79, 89, 7, 25, 8]
abbrev dktX0_entry_5 : List UInt8 := dkwX0_entry_5 ++ dktX0_entry_6
def dkwX0_entry_4 : List UInt8 := [58, 8, 16, 8, 188, 10, 89, 3, 25, 8, 180, 1, 58, 184, 0, 159, 79, 89, 4, 25, 8, 180, 1, 59]
abbrev dktX0_entry_4 : List UInt8 := dkwX0_entry_4 ++ dktX0_entry_5
def dkwX0_entry_3 : List UInt8 := [25, 7, 180, 1, 37, 21, 4, 182, 0, 64, 192, 1, 39, 180, 1, 53, 21, 5, 182, 0, 64, 192, 1, 56]
abbrev dktX0_entry_3 : List UInt8 := dkwX0_entry_3 ++ dktX0_entry_4
def dkwX0_entry_2 : List UInt8 := [182, 0, 96, 4, 100, 184, 0, 56, 153, 0, 14, 21, 6, 3, 16, 7, 184, 0, 56, 154, 0, 5, 2, 172]
abbrev dktX0_entry_2 : List UInt8 := dkwX0_entry_2 ++ dktX0_entry_3
def dkwX0_entry_1 : List UInt8 := [153, 0, 44, 21, 5, 3, 25, 7, 180, 1, 37, 21, 4, 182, 0, 64, 192, 1, 39, 180, 1, 53]
abbrev dktX0_entry_1 : List UInt8 := dkwX0_entry_1 ++ dktX0_entry_2
def dkwX0_entry_0 : List UInt8 := [42, 27, 28, 29, 182, 1, 27, 58, 7, 25, 7, 198, 0, 57, 25, 7, 180, 1, 33, 21, 4, 182, 0, 80]
abbrev dktX0_entry_0 : List UInt8 := dkwX0_entry_0 ++ dktX0_entry_1
theorem dksX0_entry_0 : cX0_entry.data.toList.drop 0 = dktX0_entry_0 := by decide +kernel
theorem dksX0_entry_1 : cX0_entry.data.toList.drop 24 = dktX0_entry_1 := dk_seg dksX0_entry_0 24 rfl rfl
theorem dksX0_entry_2 : cX0_entry.data.toList.drop 46 = dktX0_entry_2 := dk_seg dksX0_entry_1 22 rfl rfl
theorem dksX0_entry_3 : cX0_entry.data.toList.drop 70 = dktX0_entry_3 := dk_seg dksX0_entry_2 24 rfl rfl
theorem dksX0_entry_4 : cX0_entry.data.toList.drop 94 = dktX0_entry_4 := dk_seg dksX0_entry_3 24 rfl rfl
theorem dksX0_entry_5 : cX0_entry.data.toList.drop 118 = dktX0_entry_5 := dk_seg dksX0_entry_4 24 rfl rfl
theorem dksX0_entry_6 : cX0_entry.data.toList.drop 142 = dktX0_entry_6 := dk_seg dksX0_entry_5 24 rfl rfl
theorem dksX0_entry_7 : cX0_entry.data.toList.drop 166 = dktX0_entry_7 := dk_seg dksX0_entry_6 24 rfl rfl
theorem dX0_entry_0 : decode cX0_entry 0 = .ok (.aload_n 0, 1) := dk_42 (dk_at dksX0_entry_0 0 rfl rfl)
theorem dX0_entry_1 : decode cX0_entry 1 = .ok (.iload_n 1, 1) := dk_27 (dk_at dksX0_entry_0 1 rfl rfl)
theorem dX0_entry_2 : decode cX0_entry 2 = .ok (.iload_n 2, 1) := dk_28 (dk_at dksX0_entry_0 2 rfl rfl)
theorem dX0_entry_3 : decode cX0_entry 3 = .ok (.iload_n 3, 1) := dk_29 (dk_at dksX0_entry_0 3 rfl rfl)
theorem dX0_entry_4 : decode cX0_entry 4 = .ok (.invokevirtual 283, 3) := dk_182 1 27 (dk_at dksX0_entry_0 4 rfl rfl)
theorem dX0_entry_7 : decode cX0_entry 7 = .ok (.astore 7, 2) := dk_58 7 (dk_at dksX0_entry_0 7 rfl rfl)
theorem dX0_entry_9 : decode cX0_entry 9 = .ok (.aload 7, 2) := dk_25 7 (dk_at dksX0_entry_0 9 rfl rfl)
theorem dX0_entry_11 : decode cX0_entry 11 = .ok (.ifnull 57, 3) := dk_198 0 57 (dk_at dksX0_entry_0 11 rfl rfl)
theorem dX0_entry_14 : decode cX0_entry 14 = .ok (.aload 7, 2) := dk_25 7 (dk_at dksX0_entry_0 14 rfl rfl)
theorem dX0_entry_16 : decode cX0_entry 16 = .ok (.getfield 289, 3) := dk_180 1 33 (dk_at dksX0_entry_0 16 rfl rfl)
theorem dX0_entry_19 : decode cX0_entry 19 = .ok (.iload 4, 2) := dk_21 4 (dk_at dksX0_entry_0 19 rfl rfl)
theorem dX0_entry_21 : decode cX0_entry 21 = .ok (.invokevirtual 80, 3) := dk_182 0 80 (dk_at dksX0_entry_0 21 rfl rfl)
theorem dX0_entry_24 : decode cX0_entry 24 = .ok (.ifCond .eq 44, 3) := dk_153 0 44 (dk_at dksX0_entry_1 0 rfl rfl)
theorem dX0_entry_27 : decode cX0_entry 27 = .ok (.iload 5, 2) := dk_21 5 (dk_at dksX0_entry_1 3 rfl rfl)
theorem dX0_entry_29 : decode cX0_entry 29 = .ok (.iconst 0, 1) := dk_3 (dk_at dksX0_entry_1 5 rfl rfl)
theorem dX0_entry_30 : decode cX0_entry 30 = .ok (.aload 7, 2) := dk_25 7 (dk_at dksX0_entry_1 6 rfl rfl)
theorem dX0_entry_32 : decode cX0_entry 32 = .ok (.getfield 293, 3) := dk_180 1 37 (dk_at dksX0_entry_1 8 rfl rfl)
theorem dX0_entry_35 : decode cX0_entry 35 = .ok (.iload 4, 2) := dk_21 4 (dk_at dksX0_entry_1 11 rfl rfl)
theorem dX0_entry_37 : decode cX0_entry 37 = .ok (.invokevirtual 64, 3) := dk_182 0 64 (dk_at dksX0_entry_1 13 rfl rfl)
theorem dX0_entry_40 : decode cX0_entry 40 = .ok (.checkcast 295, 3) := dk_192 1 39 (dk_at dksX0_entry_1 16 rfl rfl)
theorem dX0_entry_43 : decode cX0_entry 43 = .ok (.getfield 309, 3) := dk_180 1 53 (dk_at dksX0_entry_1 19 rfl rfl)
theorem dX0_entry_46 : decode cX0_entry 46 = .ok (.invokevirtual 96, 3) := dk_182 0 96 (dk_at dksX0_entry_2 0 rfl rfl)
theorem dX0_entry_49 : decode cX0_entry 49 = .ok (.iconst 1, 1) := dk_4 (dk_at dksX0_entry_2 3 rfl rfl)
theorem dX0_entry_50 : decode cX0_entry 50 = .ok (.isub, 1) := dk_100 (dk_at dksX0_entry_2 4 rfl rfl)
theorem dX0_entry_51 : decode cX0_entry 51 = .ok (.invokestatic 56, 3) := dk_184 0 56 (dk_at dksX0_entry_2 5 rfl rfl)
theorem dX0_entry_54 : decode cX0_entry 54 = .ok (.ifCond .eq 14, 3) := dk_153 0 14 (dk_at dksX0_entry_2 8 rfl rfl)
theorem dX0_entry_57 : decode cX0_entry 57 = .ok (.iload 6, 2) := dk_21 6 (dk_at dksX0_entry_2 11 rfl rfl)
theorem dX0_entry_59 : decode cX0_entry 59 = .ok (.iconst 0, 1) := dk_3 (dk_at dksX0_entry_2 13 rfl rfl)
theorem dX0_entry_60 : decode cX0_entry 60 = .ok (.bipush 7, 2) := dk_16 7 (dk_at dksX0_entry_2 14 rfl rfl)
theorem dX0_entry_62 : decode cX0_entry 62 = .ok (.invokestatic 56, 3) := dk_184 0 56 (dk_at dksX0_entry_2 16 rfl rfl)
theorem dX0_entry_65 : decode cX0_entry 65 = .ok (.ifCond .ne 5, 3) := dk_154 0 5 (dk_at dksX0_entry_2 19 rfl rfl)
theorem dX0_entry_68 : decode cX0_entry 68 = .ok (.iconst (-1), 1) := dk_2 (dk_at dksX0_entry_2 22 rfl rfl)
theorem dX0_entry_69 : decode cX0_entry 69 = .ok (.ireturn, 1) := dk_172 (dk_at dksX0_entry_2 23 rfl rfl)
theorem dX0_entry_70 : decode cX0_entry 70 = .ok (.aload 7, 2) := dk_25 7 (dk_at dksX0_entry_3 0 rfl rfl)
theorem dX0_entry_72 : decode cX0_entry 72 = .ok (.getfield 293, 3) := dk_180 1 37 (dk_at dksX0_entry_3 2 rfl rfl)
theorem dX0_entry_75 : decode cX0_entry 75 = .ok (.iload 4, 2) := dk_21 4 (dk_at dksX0_entry_3 5 rfl rfl)
theorem dX0_entry_77 : decode cX0_entry 77 = .ok (.invokevirtual 64, 3) := dk_182 0 64 (dk_at dksX0_entry_3 7 rfl rfl)
theorem dX0_entry_80 : decode cX0_entry 80 = .ok (.checkcast 295, 3) := dk_192 1 39 (dk_at dksX0_entry_3 10 rfl rfl)
theorem dX0_entry_83 : decode cX0_entry 83 = .ok (.getfield 309, 3) := dk_180 1 53 (dk_at dksX0_entry_3 13 rfl rfl)
theorem dX0_entry_86 : decode cX0_entry 86 = .ok (.iload 5, 2) := dk_21 5 (dk_at dksX0_entry_3 16 rfl rfl)
theorem dX0_entry_88 : decode cX0_entry 88 = .ok (.invokevirtual 64, 3) := dk_182 0 64 (dk_at dksX0_entry_3 18 rfl rfl)
theorem dX0_entry_91 : decode cX0_entry 91 = .ok (.checkcast 312, 3) := dk_192 1 56 (dk_at dksX0_entry_3 21 rfl rfl)
theorem dX0_entry_94 : decode cX0_entry 94 = .ok (.astore 8, 2) := dk_58 8 (dk_at dksX0_entry_4 0 rfl rfl)
theorem dX0_entry_96 : decode cX0_entry 96 = .ok (.bipush 8, 2) := dk_16 8 (dk_at dksX0_entry_4 2 rfl rfl)
theorem dX0_entry_98 : decode cX0_entry 98 = .ok (.newarray .int, 2) := dk_188_10 (dk_at dksX0_entry_4 4 rfl rfl)
theorem dX0_entry_100 : decode cX0_entry 100 = .ok (.dup, 1) := dk_89 (dk_at dksX0_entry_4 6 rfl rfl)
theorem dX0_entry_101 : decode cX0_entry 101 = .ok (.iconst 0, 1) := dk_3 (dk_at dksX0_entry_4 7 rfl rfl)
theorem dX0_entry_102 : decode cX0_entry 102 = .ok (.aload 8, 2) := dk_25 8 (dk_at dksX0_entry_4 8 rfl rfl)
theorem dX0_entry_104 : decode cX0_entry 104 = .ok (.getfield 314, 3) := dk_180 1 58 (dk_at dksX0_entry_4 10 rfl rfl)
theorem dX0_entry_107 : decode cX0_entry 107 = .ok (.invokestatic 159, 3) := dk_184 0 159 (dk_at dksX0_entry_4 13 rfl rfl)
theorem dX0_entry_110 : decode cX0_entry 110 = .ok (.iastore, 1) := dk_79 (dk_at dksX0_entry_4 16 rfl rfl)
theorem dX0_entry_111 : decode cX0_entry 111 = .ok (.dup, 1) := dk_89 (dk_at dksX0_entry_4 17 rfl rfl)
theorem dX0_entry_112 : decode cX0_entry 112 = .ok (.iconst 1, 1) := dk_4 (dk_at dksX0_entry_4 18 rfl rfl)
theorem dX0_entry_113 : decode cX0_entry 113 = .ok (.aload 8, 2) := dk_25 8 (dk_at dksX0_entry_4 19 rfl rfl)
theorem dX0_entry_115 : decode cX0_entry 115 = .ok (.getfield 315, 3) := dk_180 1 59 (dk_at dksX0_entry_4 21 rfl rfl)
theorem dX0_entry_118 : decode cX0_entry 118 = .ok (.iastore, 1) := dk_79 (dk_at dksX0_entry_5 0 rfl rfl)
theorem dX0_entry_119 : decode cX0_entry 119 = .ok (.dup, 1) := dk_89 (dk_at dksX0_entry_5 1 rfl rfl)
theorem dX0_entry_120 : decode cX0_entry 120 = .ok (.iconst 2, 1) := dk_5 (dk_at dksX0_entry_5 2 rfl rfl)
theorem dX0_entry_121 : decode cX0_entry 121 = .ok (.aload 8, 2) := dk_25 8 (dk_at dksX0_entry_5 3 rfl rfl)
theorem dX0_entry_123 : decode cX0_entry 123 = .ok (.getfield 318, 3) := dk_180 1 62 (dk_at dksX0_entry_5 5 rfl rfl)
theorem dX0_entry_126 : decode cX0_entry 126 = .ok (.iastore, 1) := dk_79 (dk_at dksX0_entry_5 8 rfl rfl)
theorem dX0_entry_127 : decode cX0_entry 127 = .ok (.dup, 1) := dk_89 (dk_at dksX0_entry_5 9 rfl rfl)
theorem dX0_entry_128 : decode cX0_entry 128 = .ok (.iconst 3, 1) := dk_6 (dk_at dksX0_entry_5 10 rfl rfl)
theorem dX0_entry_129 : decode cX0_entry 129 = .ok (.aload 8, 2) := dk_25 8 (dk_at dksX0_entry_5 11 rfl rfl)
theorem dX0_entry_131 : decode cX0_entry 131 = .ok (.getfield 321, 3) := dk_180 1 65 (dk_at dksX0_entry_5 13 rfl rfl)
theorem dX0_entry_134 : decode cX0_entry 134 = .ok (.invokevirtual 96, 3) := dk_182 0 96 (dk_at dksX0_entry_5 16 rfl rfl)
theorem dX0_entry_137 : decode cX0_entry 137 = .ok (.iastore, 1) := dk_79 (dk_at dksX0_entry_5 19 rfl rfl)
theorem dX0_entry_138 : decode cX0_entry 138 = .ok (.dup, 1) := dk_89 (dk_at dksX0_entry_5 20 rfl rfl)
theorem dX0_entry_139 : decode cX0_entry 139 = .ok (.iconst 4, 1) := dk_7 (dk_at dksX0_entry_5 21 rfl rfl)
theorem dX0_entry_140 : decode cX0_entry 140 = .ok (.aload 8, 2) := dk_25 8 (dk_at dksX0_entry_5 22 rfl rfl)
theorem dX0_entry_142 : decode cX0_entry 142 = .ok (.getfield 324, 3) := dk_180 1 68 (dk_at dksX0_entry_6 0 rfl rfl)
theorem dX0_entry_145 : decode cX0_entry 145 = .ok (.iastore, 1) := dk_79 (dk_at dksX0_entry_6 3 rfl rfl)
theorem dX0_entry_146 : decode cX0_entry 146 = .ok (.dup, 1) := dk_89 (dk_at dksX0_entry_6 4 rfl rfl)
theorem dX0_entry_147 : decode cX0_entry 147 = .ok (.iconst 5, 1) := dk_8 (dk_at dksX0_entry_6 5 rfl rfl)
theorem dX0_entry_148 : decode cX0_entry 148 = .ok (.aload 8, 2) := dk_25 8 (dk_at dksX0_entry_6 6 rfl rfl)
theorem dX0_entry_150 : decode cX0_entry 150 = .ok (.getfield 327, 3) := dk_180 1 71 (dk_at dksX0_entry_6 8 rfl rfl)
theorem dX0_entry_153 : decode cX0_entry 153 = .ok (.iastore, 1) := dk_79 (dk_at dksX0_entry_6 11 rfl rfl)
theorem dX0_entry_154 : decode cX0_entry 154 = .ok (.dup, 1) := dk_89 (dk_at dksX0_entry_6 12 rfl rfl)
theorem dX0_entry_155 : decode cX0_entry 155 = .ok (.bipush 6, 2) := dk_16 6 (dk_at dksX0_entry_6 13 rfl rfl)
theorem dX0_entry_157 : decode cX0_entry 157 = .ok (.aload 8, 2) := dk_25 8 (dk_at dksX0_entry_6 15 rfl rfl)
theorem dX0_entry_159 : decode cX0_entry 159 = .ok (.getfield 330, 3) := dk_180 1 74 (dk_at dksX0_entry_6 17 rfl rfl)
theorem dX0_entry_162 : decode cX0_entry 162 = .ok (.iastore, 1) := dk_79 (dk_at dksX0_entry_6 20 rfl rfl)
theorem dX0_entry_163 : decode cX0_entry 163 = .ok (.dup, 1) := dk_89 (dk_at dksX0_entry_6 21 rfl rfl)
theorem dX0_entry_164 : decode cX0_entry 164 = .ok (.bipush 7, 2) := dk_16 7 (dk_at dksX0_entry_6 22 rfl rfl)
theorem dX0_entry_166 : decode cX0_entry 166 = .ok (.aload 8, 2) := dk_25 8 (dk_at dksX0_entry_7 0 rfl rfl)
theorem dX0_entry_168 : decode cX0_entry 168 = .ok (.getfield 333, 3) := dk_180 1 77 (dk_at dksX0_entry_7 2 rfl rfl)
theorem dX0_entry_171 : decode cX0_entry 171 = .ok (.iastore, 1) := dk_79 (dk_at dksX0_entry_7 5 rfl rfl)
theorem dX0_entry_172 : decode cX0_entry 172 = .ok (.astore 9, 2) := dk_58 9 (dk_at dksX0_entry_7 6 rfl rfl)
theorem dX0_entry_174 : decode cX0_entry 174 = .ok (.aload 9, 2) := dk_25 9 (dk_at dksX0_entry_7 8 rfl rfl)
theorem dX0_entry_176 : decode cX0_entry 176 = .ok (.iload 6, 2) := dk_21 6 (dk_at dksX0_entry_7 10 rfl rfl)
theorem dX0_entry_178 : decode cX0_entry 178 = .ok (.iaload, 1) := dk_46 (dk_at dksX0_entry_7 12 rfl rfl)
theorem dX0_entry_179 : decode cX0_entry 179 = .ok (.ireturn, 1) := dk_172 (dk_at dksX0_entry_7 13 rfl rfl)
abbrev cX0_why : ByteArray := prog_1_method_31_code
def yX0_why : MethodName := ⟨RX0, "why", "(IIII)I"⟩
def dkwX0_why_5 : List UInt8 := [167, 0, 8, 25, 6, 21, 4, 46, 172]
abbrev dktX0_why_5 : List UInt8 := dkwX0_why_5 ++ []
def dkwX0_why_4 : List UInt8 := [180, 1, 80, 29, 50, 58, 6, 25, 6, 199, 0, 16, 21, 4, 154, 0, 7, 3, 167, 0, 12, 2]
abbrev dktX0_why_4 : List UInt8 := dkwX0_why_4 ++ dktX0_why_5
def dkwX0_why_3 : List UInt8 := [192, 0, 65, 29, 182, 0, 64, 192, 0, 243, 182, 1, 1, 154, 0, 6, 16, 254, 172, 25, 5, 180, 1, 23]
abbrev dktX0_why_3 : List UInt8 := dkwX0_why_3 ++ dktX0_why_4
def dkwX0_why_2 : List UInt8 := [180, 1, 20, 4, 100, 184, 0, 56, 153, 0, 30, 42, 180, 0, 45, 180, 0, 116, 28, 182, 0, 64]
abbrev dktX0_why_2 : List UInt8 := dkwX0_why_2 ++ dktX0_why_3
def dkwX0_why_1 : List UInt8 := [184, 0, 56, 154, 0, 6, 16, 254, 172, 42, 27, 28, 16, 40, 182, 1, 16, 58, 5, 29, 3, 25, 5]
abbrev dktX0_why_1 : List UInt8 := dkwX0_why_1 ++ dktX0_why_2
def dkwX0_why_0 : List UInt8 := [42, 3, 27, 182, 0, 72, 153, 0, 23, 42, 4, 28, 182, 0, 72, 153, 0, 14, 21, 4, 3, 16, 6]
abbrev dktX0_why_0 : List UInt8 := dkwX0_why_0 ++ dktX0_why_1
theorem dksX0_why_0 : cX0_why.data.toList.drop 0 = dktX0_why_0 := by decide +kernel
theorem dksX0_why_1 : cX0_why.data.toList.drop 23 = dktX0_why_1 := dk_seg dksX0_why_0 23 rfl rfl
theorem dksX0_why_2 : cX0_why.data.toList.drop 46 = dktX0_why_2 := dk_seg dksX0_why_1 23 rfl rfl
theorem dksX0_why_3 : cX0_why.data.toList.drop 68 = dktX0_why_3 := dk_seg dksX0_why_2 22 rfl rfl
theorem dksX0_why_4 : cX0_why.data.toList.drop 92 = dktX0_why_4 := dk_seg dksX0_why_3 24 rfl rfl
theorem dksX0_why_5 : cX0_why.data.toList.drop 114 = dktX0_why_5 := dk_seg dksX0_why_4 22 rfl rfl
theorem dX0_why_0 : decode cX0_why 0 = .ok (.aload_n 0, 1) := dk_42 (dk_at dksX0_why_0 0 rfl rfl)
theorem dX0_why_1 : decode cX0_why 1 = .ok (.iconst 0, 1) := dk_3 (dk_at dksX0_why_0 1 rfl rfl)
theorem dX0_why_2 : decode cX0_why 2 = .ok (.iload_n 1, 1) := dk_27 (dk_at dksX0_why_0 2 rfl rfl)
theorem dX0_why_3 : decode cX0_why 3 = .ok (.invokevirtual 72, 3) := dk_182 0 72 (dk_at dksX0_why_0 3 rfl rfl)
theorem dX0_why_6 : decode cX0_why 6 = .ok (.ifCond .eq 23, 3) := dk_153 0 23 (dk_at dksX0_why_0 6 rfl rfl)
theorem dX0_why_9 : decode cX0_why 9 = .ok (.aload_n 0, 1) := dk_42 (dk_at dksX0_why_0 9 rfl rfl)
theorem dX0_why_10 : decode cX0_why 10 = .ok (.iconst 1, 1) := dk_4 (dk_at dksX0_why_0 10 rfl rfl)
theorem dX0_why_11 : decode cX0_why 11 = .ok (.iload_n 2, 1) := dk_28 (dk_at dksX0_why_0 11 rfl rfl)
theorem dX0_why_12 : decode cX0_why 12 = .ok (.invokevirtual 72, 3) := dk_182 0 72 (dk_at dksX0_why_0 12 rfl rfl)
theorem dX0_why_15 : decode cX0_why 15 = .ok (.ifCond .eq 14, 3) := dk_153 0 14 (dk_at dksX0_why_0 15 rfl rfl)
theorem dX0_why_18 : decode cX0_why 18 = .ok (.iload 4, 2) := dk_21 4 (dk_at dksX0_why_0 18 rfl rfl)
theorem dX0_why_20 : decode cX0_why 20 = .ok (.iconst 0, 1) := dk_3 (dk_at dksX0_why_0 20 rfl rfl)
theorem dX0_why_21 : decode cX0_why 21 = .ok (.bipush 6, 2) := dk_16 6 (dk_at dksX0_why_0 21 rfl rfl)
theorem dX0_why_23 : decode cX0_why 23 = .ok (.invokestatic 56, 3) := dk_184 0 56 (dk_at dksX0_why_1 0 rfl rfl)
theorem dX0_why_26 : decode cX0_why 26 = .ok (.ifCond .ne 6, 3) := dk_154 0 6 (dk_at dksX0_why_1 3 rfl rfl)
theorem dX0_why_29 : decode cX0_why 29 = .ok (.bipush (-2), 2) := dk_16 254 (dk_at dksX0_why_1 6 rfl rfl)
theorem dX0_why_31 : decode cX0_why 31 = .ok (.ireturn, 1) := dk_172 (dk_at dksX0_why_1 8 rfl rfl)
theorem dX0_why_32 : decode cX0_why 32 = .ok (.aload_n 0, 1) := dk_42 (dk_at dksX0_why_1 9 rfl rfl)
theorem dX0_why_33 : decode cX0_why 33 = .ok (.iload_n 1, 1) := dk_27 (dk_at dksX0_why_1 10 rfl rfl)
theorem dX0_why_34 : decode cX0_why 34 = .ok (.iload_n 2, 1) := dk_28 (dk_at dksX0_why_1 11 rfl rfl)
theorem dX0_why_35 : decode cX0_why 35 = .ok (.bipush 40, 2) := dk_16 40 (dk_at dksX0_why_1 12 rfl rfl)
theorem dX0_why_37 : decode cX0_why 37 = .ok (.invokevirtual 272, 3) := dk_182 1 16 (dk_at dksX0_why_1 14 rfl rfl)
theorem dX0_why_40 : decode cX0_why 40 = .ok (.astore 5, 2) := dk_58 5 (dk_at dksX0_why_1 17 rfl rfl)
theorem dX0_why_42 : decode cX0_why 42 = .ok (.iload_n 3, 1) := dk_29 (dk_at dksX0_why_1 19 rfl rfl)
theorem dX0_why_43 : decode cX0_why 43 = .ok (.iconst 0, 1) := dk_3 (dk_at dksX0_why_1 20 rfl rfl)
theorem dX0_why_44 : decode cX0_why 44 = .ok (.aload 5, 2) := dk_25 5 (dk_at dksX0_why_1 21 rfl rfl)
theorem dX0_why_46 : decode cX0_why 46 = .ok (.getfield 276, 3) := dk_180 1 20 (dk_at dksX0_why_2 0 rfl rfl)
theorem dX0_why_49 : decode cX0_why 49 = .ok (.iconst 1, 1) := dk_4 (dk_at dksX0_why_2 3 rfl rfl)
theorem dX0_why_50 : decode cX0_why 50 = .ok (.isub, 1) := dk_100 (dk_at dksX0_why_2 4 rfl rfl)
theorem dX0_why_51 : decode cX0_why 51 = .ok (.invokestatic 56, 3) := dk_184 0 56 (dk_at dksX0_why_2 5 rfl rfl)
theorem dX0_why_54 : decode cX0_why 54 = .ok (.ifCond .eq 30, 3) := dk_153 0 30 (dk_at dksX0_why_2 8 rfl rfl)
theorem dX0_why_57 : decode cX0_why 57 = .ok (.aload_n 0, 1) := dk_42 (dk_at dksX0_why_2 11 rfl rfl)
theorem dX0_why_58 : decode cX0_why 58 = .ok (.getfield 45, 3) := dk_180 0 45 (dk_at dksX0_why_2 12 rfl rfl)
theorem dX0_why_61 : decode cX0_why 61 = .ok (.getfield 116, 3) := dk_180 0 116 (dk_at dksX0_why_2 15 rfl rfl)
theorem dX0_why_64 : decode cX0_why 64 = .ok (.iload_n 2, 1) := dk_28 (dk_at dksX0_why_2 18 rfl rfl)
theorem dX0_why_65 : decode cX0_why 65 = .ok (.invokevirtual 64, 3) := dk_182 0 64 (dk_at dksX0_why_2 19 rfl rfl)
theorem dX0_why_68 : decode cX0_why 68 = .ok (.checkcast 65, 3) := dk_192 0 65 (dk_at dksX0_why_3 0 rfl rfl)
theorem dX0_why_71 : decode cX0_why 71 = .ok (.iload_n 3, 1) := dk_29 (dk_at dksX0_why_3 3 rfl rfl)
theorem dX0_why_72 : decode cX0_why 72 = .ok (.invokevirtual 64, 3) := dk_182 0 64 (dk_at dksX0_why_3 4 rfl rfl)
theorem dX0_why_75 : decode cX0_why 75 = .ok (.checkcast 243, 3) := dk_192 0 243 (dk_at dksX0_why_3 7 rfl rfl)
theorem dX0_why_78 : decode cX0_why 78 = .ok (.invokevirtual 257, 3) := dk_182 1 1 (dk_at dksX0_why_3 10 rfl rfl)
theorem dX0_why_81 : decode cX0_why 81 = .ok (.ifCond .ne 6, 3) := dk_154 0 6 (dk_at dksX0_why_3 13 rfl rfl)
theorem dX0_why_84 : decode cX0_why 84 = .ok (.bipush (-2), 2) := dk_16 254 (dk_at dksX0_why_3 16 rfl rfl)
theorem dX0_why_86 : decode cX0_why 86 = .ok (.ireturn, 1) := dk_172 (dk_at dksX0_why_3 18 rfl rfl)
theorem dX0_why_87 : decode cX0_why 87 = .ok (.aload 5, 2) := dk_25 5 (dk_at dksX0_why_3 19 rfl rfl)
theorem dX0_why_89 : decode cX0_why 89 = .ok (.getfield 279, 3) := dk_180 1 23 (dk_at dksX0_why_3 21 rfl rfl)
theorem dX0_why_92 : decode cX0_why 92 = .ok (.getfield 336, 3) := dk_180 1 80 (dk_at dksX0_why_4 0 rfl rfl)
theorem dX0_why_95 : decode cX0_why 95 = .ok (.iload_n 3, 1) := dk_29 (dk_at dksX0_why_4 3 rfl rfl)
theorem dX0_why_96 : decode cX0_why 96 = .ok (.aaload, 1) := dk_50 (dk_at dksX0_why_4 4 rfl rfl)
theorem dX0_why_97 : decode cX0_why 97 = .ok (.astore 6, 2) := dk_58 6 (dk_at dksX0_why_4 5 rfl rfl)
theorem dX0_why_99 : decode cX0_why 99 = .ok (.aload 6, 2) := dk_25 6 (dk_at dksX0_why_4 7 rfl rfl)
theorem dX0_why_101 : decode cX0_why 101 = .ok (.ifnonnull 16, 3) := dk_199 0 16 (dk_at dksX0_why_4 9 rfl rfl)
theorem dX0_why_104 : decode cX0_why 104 = .ok (.iload 4, 2) := dk_21 4 (dk_at dksX0_why_4 12 rfl rfl)
theorem dX0_why_106 : decode cX0_why 106 = .ok (.ifCond .ne 7, 3) := dk_154 0 7 (dk_at dksX0_why_4 14 rfl rfl)
theorem dX0_why_109 : decode cX0_why 109 = .ok (.iconst 0, 1) := dk_3 (dk_at dksX0_why_4 17 rfl rfl)
theorem dX0_why_110 : decode cX0_why 110 = .ok (.goto 12, 3) := dk_167 0 12 (dk_at dksX0_why_4 18 rfl rfl)
theorem dX0_why_113 : decode cX0_why 113 = .ok (.iconst (-1), 1) := dk_2 (dk_at dksX0_why_4 21 rfl rfl)
theorem dX0_why_114 : decode cX0_why 114 = .ok (.goto 8, 3) := dk_167 0 8 (dk_at dksX0_why_5 0 rfl rfl)
theorem dX0_why_117 : decode cX0_why 117 = .ok (.aload 6, 2) := dk_25 6 (dk_at dksX0_why_5 3 rfl rfl)
theorem dX0_why_119 : decode cX0_why 119 = .ok (.iload 4, 2) := dk_21 4 (dk_at dksX0_why_5 5 rfl rfl)
theorem dX0_why_121 : decode cX0_why 121 = .ok (.iaload, 1) := dk_46 (dk_at dksX0_why_5 7 rfl rfl)
theorem dX0_why_122 : decode cX0_why 122 = .ok (.ireturn, 1) := dk_172 (dk_at dksX0_why_5 8 rfl rfl)
abbrev cX0_after : ByteArray := prog_1_method_32_code
def yX0_after : MethodName := ⟨RX0, "after", "(III)I"⟩
def dkwX0_after_1 : List UInt8 := [184, 0, 56, 153, 0, 18, 42, 27, 28, 16, 40, 182, 1, 16, 29, 182, 1, 83, 167, 0, 5, 16, 254, 172]
abbrev dktX0_after_1 : List UInt8 := dkwX0_after_1 ++ []
def dkwX0_after_0 : List UInt8 := [42, 3, 27, 182, 0, 72, 153, 0, 37, 42, 4, 28, 182, 0, 72, 153, 0, 28, 29, 3, 16, 8]
abbrev dktX0_after_0 : List UInt8 := dkwX0_after_0 ++ dktX0_after_1
theorem dksX0_after_0 : cX0_after.data.toList.drop 0 = dktX0_after_0 := by decide +kernel
theorem dksX0_after_1 : cX0_after.data.toList.drop 22 = dktX0_after_1 := dk_seg dksX0_after_0 22 rfl rfl
theorem dX0_after_0 : decode cX0_after 0 = .ok (.aload_n 0, 1) := dk_42 (dk_at dksX0_after_0 0 rfl rfl)
theorem dX0_after_1 : decode cX0_after 1 = .ok (.iconst 0, 1) := dk_3 (dk_at dksX0_after_0 1 rfl rfl)
theorem dX0_after_2 : decode cX0_after 2 = .ok (.iload_n 1, 1) := dk_27 (dk_at dksX0_after_0 2 rfl rfl)
theorem dX0_after_3 : decode cX0_after 3 = .ok (.invokevirtual 72, 3) := dk_182 0 72 (dk_at dksX0_after_0 3 rfl rfl)
theorem dX0_after_6 : decode cX0_after 6 = .ok (.ifCond .eq 37, 3) := dk_153 0 37 (dk_at dksX0_after_0 6 rfl rfl)
theorem dX0_after_9 : decode cX0_after 9 = .ok (.aload_n 0, 1) := dk_42 (dk_at dksX0_after_0 9 rfl rfl)
theorem dX0_after_10 : decode cX0_after 10 = .ok (.iconst 1, 1) := dk_4 (dk_at dksX0_after_0 10 rfl rfl)
theorem dX0_after_11 : decode cX0_after 11 = .ok (.iload_n 2, 1) := dk_28 (dk_at dksX0_after_0 11 rfl rfl)
theorem dX0_after_12 : decode cX0_after 12 = .ok (.invokevirtual 72, 3) := dk_182 0 72 (dk_at dksX0_after_0 12 rfl rfl)
theorem dX0_after_15 : decode cX0_after 15 = .ok (.ifCond .eq 28, 3) := dk_153 0 28 (dk_at dksX0_after_0 15 rfl rfl)
theorem dX0_after_18 : decode cX0_after 18 = .ok (.iload_n 3, 1) := dk_29 (dk_at dksX0_after_0 18 rfl rfl)
theorem dX0_after_19 : decode cX0_after 19 = .ok (.iconst 0, 1) := dk_3 (dk_at dksX0_after_0 19 rfl rfl)
theorem dX0_after_20 : decode cX0_after 20 = .ok (.bipush 8, 2) := dk_16 8 (dk_at dksX0_after_0 20 rfl rfl)
theorem dX0_after_22 : decode cX0_after 22 = .ok (.invokestatic 56, 3) := dk_184 0 56 (dk_at dksX0_after_1 0 rfl rfl)
theorem dX0_after_25 : decode cX0_after 25 = .ok (.ifCond .eq 18, 3) := dk_153 0 18 (dk_at dksX0_after_1 3 rfl rfl)
theorem dX0_after_28 : decode cX0_after 28 = .ok (.aload_n 0, 1) := dk_42 (dk_at dksX0_after_1 6 rfl rfl)
theorem dX0_after_29 : decode cX0_after 29 = .ok (.iload_n 1, 1) := dk_27 (dk_at dksX0_after_1 7 rfl rfl)
theorem dX0_after_30 : decode cX0_after 30 = .ok (.iload_n 2, 1) := dk_28 (dk_at dksX0_after_1 8 rfl rfl)
theorem dX0_after_31 : decode cX0_after 31 = .ok (.bipush 40, 2) := dk_16 40 (dk_at dksX0_after_1 9 rfl rfl)
theorem dX0_after_33 : decode cX0_after 33 = .ok (.invokevirtual 272, 3) := dk_182 1 16 (dk_at dksX0_after_1 11 rfl rfl)
theorem dX0_after_36 : decode cX0_after 36 = .ok (.iload_n 3, 1) := dk_29 (dk_at dksX0_after_1 14 rfl rfl)
theorem dX0_after_37 : decode cX0_after 37 = .ok (.invokevirtual 339, 3) := dk_182 1 83 (dk_at dksX0_after_1 15 rfl rfl)
theorem dX0_after_40 : decode cX0_after 40 = .ok (.goto 5, 3) := dk_167 0 5 (dk_at dksX0_after_1 18 rfl rfl)
theorem dX0_after_43 : decode cX0_after 43 = .ok (.bipush (-2), 2) := dk_16 254 (dk_at dksX0_after_1 21 rfl rfl)
theorem dX0_after_45 : decode cX0_after 45 = .ok (.ireturn, 1) := dk_172 (dk_at dksX0_after_1 23 rfl rfl)
abbrev cX0_common : ByteArray := prog_1_method_4_code
def yX0_common : MethodName := ⟨RX0, "common", "(II)I"⟩
def dkwX0_common_0 : List UInt8 := [27, 154, 0, 7, 26, 167, 0, 10, 27, 26, 27, 112, 184, 0, 7, 172]
abbrev dktX0_common_0 : List UInt8 := dkwX0_common_0 ++ []
theorem dksX0_common_0 : cX0_common.data.toList.drop 0 = dktX0_common_0 := by decide +kernel
theorem dX0_common_0 : decode cX0_common 0 = .ok (.iload_n 1, 1) := dk_27 (dk_at dksX0_common_0 0 rfl rfl)
theorem dX0_common_1 : decode cX0_common 1 = .ok (.ifCond .ne 7, 3) := dk_154 0 7 (dk_at dksX0_common_0 1 rfl rfl)
theorem dX0_common_4 : decode cX0_common 4 = .ok (.iload_n 0, 1) := dk_26 (dk_at dksX0_common_0 4 rfl rfl)
theorem dX0_common_5 : decode cX0_common 5 = .ok (.goto 10, 3) := dk_167 0 10 (dk_at dksX0_common_0 5 rfl rfl)
theorem dX0_common_8 : decode cX0_common 8 = .ok (.iload_n 1, 1) := dk_27 (dk_at dksX0_common_0 8 rfl rfl)
theorem dX0_common_9 : decode cX0_common 9 = .ok (.iload_n 0, 1) := dk_26 (dk_at dksX0_common_0 9 rfl rfl)
theorem dX0_common_10 : decode cX0_common 10 = .ok (.iload_n 1, 1) := dk_27 (dk_at dksX0_common_0 10 rfl rfl)
theorem dX0_common_11 : decode cX0_common 11 = .ok (.irem, 1) := dk_112 (dk_at dksX0_common_0 11 rfl rfl)
theorem dX0_common_12 : decode cX0_common 12 = .ok (.invokestatic 7, 3) := dk_184 0 7 (dk_at dksX0_common_0 12 rfl rfl)
theorem dX0_common_15 : decode cX0_common 15 = .ok (.ireturn, 1) := dk_172 (dk_at dksX0_common_0 15 rfl rfl)
abbrev cX0_alone : ByteArray := prog_1_method_33_code
def yX0_alone : MethodName := ⟨RX0, "alone", "(IIIII)I"⟩
def dkwX0_alone_5 : List UInt8 := [167, 0, 13, 25, 7, 180, 1, 80, 3, 50, 21, 5, 46, 172]
abbrev dktX0_alone_5 : List UInt8 := dkwX0_alone_5 ++ []
def dkwX0_alone_4 : List UInt8 := [180, 1, 94, 172, 25, 7, 180, 1, 80, 3, 50, 199, 0, 16, 21, 5, 154, 0, 7, 3, 167, 0, 17, 2]
abbrev dktX0_alone_4 : List UInt8 := dkwX0_alone_4 ++ dktX0_alone_5
def dkwX0_alone_3 : List UInt8 := [180, 1, 89, 16, 99, 162, 0, 11, 25, 7, 182, 1, 92, 167, 255, 241, 21, 5, 5, 160, 0, 9, 25, 7]
abbrev dktX0_alone_3 : List UInt8 := dkwX0_alone_3 ++ dktX0_alone_4
def dkwX0_alone_2 : List UInt8 := [27, 182, 0, 76, 183, 0, 214, 58, 7, 25, 7, 28, 2, 25, 6, 21, 4, 3, 182, 1, 86, 25, 7]
abbrev dktX0_alone_2 : List UInt8 := dkwX0_alone_2 ++ dktX0_alone_3
def dkwX0_alone_1 : List UInt8 := [184, 0, 56, 153, 0, 13, 21, 5, 3, 5, 184, 0, 56, 154, 0, 6, 16, 254, 172, 187, 0, 212, 89, 42]
abbrev dktX0_alone_1 : List UInt8 := dkwX0_alone_1 ++ dktX0_alone_2
def dkwX0_alone_0 : List UInt8 := [29, 184, 0, 205, 58, 6, 42, 27, 28, 182, 0, 198, 153, 0, 28, 25, 6, 198, 0, 23, 21, 4, 3, 4]
abbrev dktX0_alone_0 : List UInt8 := dkwX0_alone_0 ++ dktX0_alone_1
theorem dksX0_alone_0 : cX0_alone.data.toList.drop 0 = dktX0_alone_0 := by decide +kernel
theorem dksX0_alone_1 : cX0_alone.data.toList.drop 24 = dktX0_alone_1 := dk_seg dksX0_alone_0 24 rfl rfl
theorem dksX0_alone_2 : cX0_alone.data.toList.drop 48 = dktX0_alone_2 := dk_seg dksX0_alone_1 24 rfl rfl
theorem dksX0_alone_3 : cX0_alone.data.toList.drop 71 = dktX0_alone_3 := dk_seg dksX0_alone_2 23 rfl rfl
theorem dksX0_alone_4 : cX0_alone.data.toList.drop 95 = dktX0_alone_4 := dk_seg dksX0_alone_3 24 rfl rfl
theorem dksX0_alone_5 : cX0_alone.data.toList.drop 119 = dktX0_alone_5 := dk_seg dksX0_alone_4 24 rfl rfl
theorem dX0_alone_0 : decode cX0_alone 0 = .ok (.iload_n 3, 1) := dk_29 (dk_at dksX0_alone_0 0 rfl rfl)
theorem dX0_alone_1 : decode cX0_alone 1 = .ok (.invokestatic 205, 3) := dk_184 0 205 (dk_at dksX0_alone_0 1 rfl rfl)
theorem dX0_alone_4 : decode cX0_alone 4 = .ok (.astore 6, 2) := dk_58 6 (dk_at dksX0_alone_0 4 rfl rfl)
theorem dX0_alone_6 : decode cX0_alone 6 = .ok (.aload_n 0, 1) := dk_42 (dk_at dksX0_alone_0 6 rfl rfl)
theorem dX0_alone_7 : decode cX0_alone 7 = .ok (.iload_n 1, 1) := dk_27 (dk_at dksX0_alone_0 7 rfl rfl)
theorem dX0_alone_8 : decode cX0_alone 8 = .ok (.iload_n 2, 1) := dk_28 (dk_at dksX0_alone_0 8 rfl rfl)
theorem dX0_alone_9 : decode cX0_alone 9 = .ok (.invokevirtual 198, 3) := dk_182 0 198 (dk_at dksX0_alone_0 9 rfl rfl)
theorem dX0_alone_12 : decode cX0_alone 12 = .ok (.ifCond .eq 28, 3) := dk_153 0 28 (dk_at dksX0_alone_0 12 rfl rfl)
theorem dX0_alone_15 : decode cX0_alone 15 = .ok (.aload 6, 2) := dk_25 6 (dk_at dksX0_alone_0 15 rfl rfl)
theorem dX0_alone_17 : decode cX0_alone 17 = .ok (.ifnull 23, 3) := dk_198 0 23 (dk_at dksX0_alone_0 17 rfl rfl)
theorem dX0_alone_20 : decode cX0_alone 20 = .ok (.iload 4, 2) := dk_21 4 (dk_at dksX0_alone_0 20 rfl rfl)
theorem dX0_alone_22 : decode cX0_alone 22 = .ok (.iconst 0, 1) := dk_3 (dk_at dksX0_alone_0 22 rfl rfl)
theorem dX0_alone_23 : decode cX0_alone 23 = .ok (.iconst 1, 1) := dk_4 (dk_at dksX0_alone_0 23 rfl rfl)
theorem dX0_alone_24 : decode cX0_alone 24 = .ok (.invokestatic 56, 3) := dk_184 0 56 (dk_at dksX0_alone_1 0 rfl rfl)
theorem dX0_alone_27 : decode cX0_alone 27 = .ok (.ifCond .eq 13, 3) := dk_153 0 13 (dk_at dksX0_alone_1 3 rfl rfl)
theorem dX0_alone_30 : decode cX0_alone 30 = .ok (.iload 5, 2) := dk_21 5 (dk_at dksX0_alone_1 6 rfl rfl)
theorem dX0_alone_32 : decode cX0_alone 32 = .ok (.iconst 0, 1) := dk_3 (dk_at dksX0_alone_1 8 rfl rfl)
theorem dX0_alone_33 : decode cX0_alone 33 = .ok (.iconst 2, 1) := dk_5 (dk_at dksX0_alone_1 9 rfl rfl)
theorem dX0_alone_34 : decode cX0_alone 34 = .ok (.invokestatic 56, 3) := dk_184 0 56 (dk_at dksX0_alone_1 10 rfl rfl)
theorem dX0_alone_37 : decode cX0_alone 37 = .ok (.ifCond .ne 6, 3) := dk_154 0 6 (dk_at dksX0_alone_1 13 rfl rfl)
theorem dX0_alone_40 : decode cX0_alone 40 = .ok (.bipush (-2), 2) := dk_16 254 (dk_at dksX0_alone_1 16 rfl rfl)
theorem dX0_alone_42 : decode cX0_alone 42 = .ok (.ireturn, 1) := dk_172 (dk_at dksX0_alone_1 18 rfl rfl)
theorem dX0_alone_43 : decode cX0_alone 43 = .ok (.new 212, 3) := dk_187 0 212 (dk_at dksX0_alone_1 19 rfl rfl)
theorem dX0_alone_46 : decode cX0_alone 46 = .ok (.dup, 1) := dk_89 (dk_at dksX0_alone_1 22 rfl rfl)
theorem dX0_alone_47 : decode cX0_alone 47 = .ok (.aload_n 0, 1) := dk_42 (dk_at dksX0_alone_1 23 rfl rfl)
theorem dX0_alone_48 : decode cX0_alone 48 = .ok (.iload_n 1, 1) := dk_27 (dk_at dksX0_alone_2 0 rfl rfl)
theorem dX0_alone_49 : decode cX0_alone 49 = .ok (.invokevirtual 76, 3) := dk_182 0 76 (dk_at dksX0_alone_2 1 rfl rfl)
theorem dX0_alone_52 : decode cX0_alone 52 = .ok (.invokespecial 214, 3) := dk_183 0 214 (dk_at dksX0_alone_2 4 rfl rfl)
theorem dX0_alone_55 : decode cX0_alone 55 = .ok (.astore 7, 2) := dk_58 7 (dk_at dksX0_alone_2 7 rfl rfl)
theorem dX0_alone_57 : decode cX0_alone 57 = .ok (.aload 7, 2) := dk_25 7 (dk_at dksX0_alone_2 9 rfl rfl)
theorem dX0_alone_59 : decode cX0_alone 59 = .ok (.iload_n 2, 1) := dk_28 (dk_at dksX0_alone_2 11 rfl rfl)
theorem dX0_alone_60 : decode cX0_alone 60 = .ok (.iconst (-1), 1) := dk_2 (dk_at dksX0_alone_2 12 rfl rfl)
theorem dX0_alone_61 : decode cX0_alone 61 = .ok (.aload 6, 2) := dk_25 6 (dk_at dksX0_alone_2 13 rfl rfl)
theorem dX0_alone_63 : decode cX0_alone 63 = .ok (.iload 4, 2) := dk_21 4 (dk_at dksX0_alone_2 15 rfl rfl)
theorem dX0_alone_65 : decode cX0_alone 65 = .ok (.iconst 0, 1) := dk_3 (dk_at dksX0_alone_2 17 rfl rfl)
theorem dX0_alone_66 : decode cX0_alone 66 = .ok (.invokevirtual 342, 3) := dk_182 1 86 (dk_at dksX0_alone_2 18 rfl rfl)
theorem dX0_alone_69 : decode cX0_alone 69 = .ok (.aload 7, 2) := dk_25 7 (dk_at dksX0_alone_2 21 rfl rfl)
theorem dX0_alone_71 : decode cX0_alone 71 = .ok (.getfield 345, 3) := dk_180 1 89 (dk_at dksX0_alone_3 0 rfl rfl)
theorem dX0_alone_74 : decode cX0_alone 74 = .ok (.bipush 99, 2) := dk_16 99 (dk_at dksX0_alone_3 3 rfl rfl)
theorem dX0_alone_76 : decode cX0_alone 76 = .ok (.if_icmp .ge 11, 3) := dk_162 0 11 (dk_at dksX0_alone_3 5 rfl rfl)
theorem dX0_alone_79 : decode cX0_alone 79 = .ok (.aload 7, 2) := dk_25 7 (dk_at dksX0_alone_3 8 rfl rfl)
theorem dX0_alone_81 : decode cX0_alone 81 = .ok (.invokevirtual 348, 3) := dk_182 1 92 (dk_at dksX0_alone_3 10 rfl rfl)
theorem dX0_alone_84 : decode cX0_alone 84 = .ok (.goto (-15), 3) := dk_167 255 241 (dk_at dksX0_alone_3 13 rfl rfl)
theorem dX0_alone_87 : decode cX0_alone 87 = .ok (.iload 5, 2) := dk_21 5 (dk_at dksX0_alone_3 16 rfl rfl)
theorem dX0_alone_89 : decode cX0_alone 89 = .ok (.iconst 2, 1) := dk_5 (dk_at dksX0_alone_3 18 rfl rfl)
theorem dX0_alone_90 : decode cX0_alone 90 = .ok (.if_icmp .ne 9, 3) := dk_160 0 9 (dk_at dksX0_alone_3 19 rfl rfl)
theorem dX0_alone_93 : decode cX0_alone 93 = .ok (.aload 7, 2) := dk_25 7 (dk_at dksX0_alone_3 22 rfl rfl)
theorem dX0_alone_95 : decode cX0_alone 95 = .ok (.getfield 350, 3) := dk_180 1 94 (dk_at dksX0_alone_4 0 rfl rfl)
theorem dX0_alone_98 : decode cX0_alone 98 = .ok (.ireturn, 1) := dk_172 (dk_at dksX0_alone_4 3 rfl rfl)
theorem dX0_alone_99 : decode cX0_alone 99 = .ok (.aload 7, 2) := dk_25 7 (dk_at dksX0_alone_4 4 rfl rfl)
theorem dX0_alone_101 : decode cX0_alone 101 = .ok (.getfield 336, 3) := dk_180 1 80 (dk_at dksX0_alone_4 6 rfl rfl)
theorem dX0_alone_104 : decode cX0_alone 104 = .ok (.iconst 0, 1) := dk_3 (dk_at dksX0_alone_4 9 rfl rfl)
theorem dX0_alone_105 : decode cX0_alone 105 = .ok (.aaload, 1) := dk_50 (dk_at dksX0_alone_4 10 rfl rfl)
theorem dX0_alone_106 : decode cX0_alone 106 = .ok (.ifnonnull 16, 3) := dk_199 0 16 (dk_at dksX0_alone_4 11 rfl rfl)
theorem dX0_alone_109 : decode cX0_alone 109 = .ok (.iload 5, 2) := dk_21 5 (dk_at dksX0_alone_4 14 rfl rfl)
theorem dX0_alone_111 : decode cX0_alone 111 = .ok (.ifCond .ne 7, 3) := dk_154 0 7 (dk_at dksX0_alone_4 16 rfl rfl)
theorem dX0_alone_114 : decode cX0_alone 114 = .ok (.iconst 0, 1) := dk_3 (dk_at dksX0_alone_4 19 rfl rfl)
theorem dX0_alone_115 : decode cX0_alone 115 = .ok (.goto 17, 3) := dk_167 0 17 (dk_at dksX0_alone_4 20 rfl rfl)
theorem dX0_alone_118 : decode cX0_alone 118 = .ok (.iconst (-1), 1) := dk_2 (dk_at dksX0_alone_4 23 rfl rfl)
theorem dX0_alone_119 : decode cX0_alone 119 = .ok (.goto 13, 3) := dk_167 0 13 (dk_at dksX0_alone_5 0 rfl rfl)
theorem dX0_alone_122 : decode cX0_alone 122 = .ok (.aload 7, 2) := dk_25 7 (dk_at dksX0_alone_5 3 rfl rfl)
theorem dX0_alone_124 : decode cX0_alone 124 = .ok (.getfield 336, 3) := dk_180 1 80 (dk_at dksX0_alone_5 5 rfl rfl)
theorem dX0_alone_127 : decode cX0_alone 127 = .ok (.iconst 0, 1) := dk_3 (dk_at dksX0_alone_5 8 rfl rfl)
theorem dX0_alone_128 : decode cX0_alone 128 = .ok (.aaload, 1) := dk_50 (dk_at dksX0_alone_5 9 rfl rfl)
theorem dX0_alone_129 : decode cX0_alone 129 = .ok (.iload 5, 2) := dk_21 5 (dk_at dksX0_alone_5 10 rfl rfl)
theorem dX0_alone_131 : decode cX0_alone 131 = .ok (.iaload, 1) := dk_46 (dk_at dksX0_alone_5 12 rfl rfl)
theorem dX0_alone_132 : decode cX0_alone 132 = .ok (.ireturn, 1) := dk_172 (dk_at dksX0_alone_5 13 rfl rfl)
abbrev cX0_fact : ByteArray := prog_1_method_34_code
def yX0_fact : MethodName := ⟨RX0, "fact", "(III)I"⟩
def dkwX0_fact_3 : List UInt8 := [153, 0, 17, 25, 4, 28, 182, 0, 64, 192, 1, 95, 29, 46, 167, 0, 5, 16, 254, 172]
abbrev dktX0_fact_3 : List UInt8 := dkwX0_fact_3 ++ []
def dkwX0_fact_2 : List UInt8 := [172, 28, 3, 25, 4, 182, 0, 96, 4, 100, 184, 0, 56, 153, 0, 26, 29, 3, 4, 184, 0, 56]
abbrev dktX0_fact_2 : List UInt8 := dkwX0_fact_2 ++ dktX0_fact_3
def dkwX0_fact_1 : List UInt8 := [192, 0, 65, 58, 4, 28, 2, 160, 0, 18, 29, 154, 0, 11, 25, 4, 182, 0, 96, 167, 0, 5, 16, 254]
abbrev dktX0_fact_1 : List UInt8 := dkwX0_fact_1 ++ dktX0_fact_2
def dkwX0_fact_0 : List UInt8 := [42, 5, 27, 182, 0, 72, 154, 0, 6, 16, 254, 172, 42, 180, 0, 45, 180, 0, 125, 27, 182, 0, 64]
abbrev dktX0_fact_0 : List UInt8 := dkwX0_fact_0 ++ dktX0_fact_1
theorem dksX0_fact_0 : cX0_fact.data.toList.drop 0 = dktX0_fact_0 := by decide +kernel
theorem dksX0_fact_1 : cX0_fact.data.toList.drop 23 = dktX0_fact_1 := dk_seg dksX0_fact_0 23 rfl rfl
theorem dksX0_fact_2 : cX0_fact.data.toList.drop 47 = dktX0_fact_2 := dk_seg dksX0_fact_1 24 rfl rfl
theorem dksX0_fact_3 : cX0_fact.data.toList.drop 69 = dktX0_fact_3 := dk_seg dksX0_fact_2 22 rfl rfl
theorem dX0_fact_0 : decode cX0_fact 0 = .ok (.aload_n 0, 1) := dk_42 (dk_at dksX0_fact_0 0 rfl rfl)
theorem dX0_fact_1 : decode cX0_fact 1 = .ok (.iconst 2, 1) := dk_5 (dk_at dksX0_fact_0 1 rfl rfl)
theorem dX0_fact_2 : decode cX0_fact 2 = .ok (.iload_n 1, 1) := dk_27 (dk_at dksX0_fact_0 2 rfl rfl)
theorem dX0_fact_3 : decode cX0_fact 3 = .ok (.invokevirtual 72, 3) := dk_182 0 72 (dk_at dksX0_fact_0 3 rfl rfl)
theorem dX0_fact_6 : decode cX0_fact 6 = .ok (.ifCond .ne 6, 3) := dk_154 0 6 (dk_at dksX0_fact_0 6 rfl rfl)
theorem dX0_fact_9 : decode cX0_fact 9 = .ok (.bipush (-2), 2) := dk_16 254 (dk_at dksX0_fact_0 9 rfl rfl)
theorem dX0_fact_11 : decode cX0_fact 11 = .ok (.ireturn, 1) := dk_172 (dk_at dksX0_fact_0 11 rfl rfl)
theorem dX0_fact_12 : decode cX0_fact 12 = .ok (.aload_n 0, 1) := dk_42 (dk_at dksX0_fact_0 12 rfl rfl)
theorem dX0_fact_13 : decode cX0_fact 13 = .ok (.getfield 45, 3) := dk_180 0 45 (dk_at dksX0_fact_0 13 rfl rfl)
theorem dX0_fact_16 : decode cX0_fact 16 = .ok (.getfield 125, 3) := dk_180 0 125 (dk_at dksX0_fact_0 16 rfl rfl)
theorem dX0_fact_19 : decode cX0_fact 19 = .ok (.iload_n 1, 1) := dk_27 (dk_at dksX0_fact_0 19 rfl rfl)
theorem dX0_fact_20 : decode cX0_fact 20 = .ok (.invokevirtual 64, 3) := dk_182 0 64 (dk_at dksX0_fact_0 20 rfl rfl)
theorem dX0_fact_23 : decode cX0_fact 23 = .ok (.checkcast 65, 3) := dk_192 0 65 (dk_at dksX0_fact_1 0 rfl rfl)
theorem dX0_fact_26 : decode cX0_fact 26 = .ok (.astore 4, 2) := dk_58 4 (dk_at dksX0_fact_1 3 rfl rfl)
theorem dX0_fact_28 : decode cX0_fact 28 = .ok (.iload_n 2, 1) := dk_28 (dk_at dksX0_fact_1 5 rfl rfl)
theorem dX0_fact_29 : decode cX0_fact 29 = .ok (.iconst (-1), 1) := dk_2 (dk_at dksX0_fact_1 6 rfl rfl)
theorem dX0_fact_30 : decode cX0_fact 30 = .ok (.if_icmp .ne 18, 3) := dk_160 0 18 (dk_at dksX0_fact_1 7 rfl rfl)
theorem dX0_fact_33 : decode cX0_fact 33 = .ok (.iload_n 3, 1) := dk_29 (dk_at dksX0_fact_1 10 rfl rfl)
theorem dX0_fact_34 : decode cX0_fact 34 = .ok (.ifCond .ne 11, 3) := dk_154 0 11 (dk_at dksX0_fact_1 11 rfl rfl)
theorem dX0_fact_37 : decode cX0_fact 37 = .ok (.aload 4, 2) := dk_25 4 (dk_at dksX0_fact_1 14 rfl rfl)
theorem dX0_fact_39 : decode cX0_fact 39 = .ok (.invokevirtual 96, 3) := dk_182 0 96 (dk_at dksX0_fact_1 16 rfl rfl)
theorem dX0_fact_42 : decode cX0_fact 42 = .ok (.goto 5, 3) := dk_167 0 5 (dk_at dksX0_fact_1 19 rfl rfl)
theorem dX0_fact_45 : decode cX0_fact 45 = .ok (.bipush (-2), 2) := dk_16 254 (dk_at dksX0_fact_1 22 rfl rfl)
theorem dX0_fact_47 : decode cX0_fact 47 = .ok (.ireturn, 1) := dk_172 (dk_at dksX0_fact_2 0 rfl rfl)
theorem dX0_fact_48 : decode cX0_fact 48 = .ok (.iload_n 2, 1) := dk_28 (dk_at dksX0_fact_2 1 rfl rfl)
theorem dX0_fact_49 : decode cX0_fact 49 = .ok (.iconst 0, 1) := dk_3 (dk_at dksX0_fact_2 2 rfl rfl)
theorem dX0_fact_50 : decode cX0_fact 50 = .ok (.aload 4, 2) := dk_25 4 (dk_at dksX0_fact_2 3 rfl rfl)
theorem dX0_fact_52 : decode cX0_fact 52 = .ok (.invokevirtual 96, 3) := dk_182 0 96 (dk_at dksX0_fact_2 5 rfl rfl)
theorem dX0_fact_55 : decode cX0_fact 55 = .ok (.iconst 1, 1) := dk_4 (dk_at dksX0_fact_2 8 rfl rfl)
theorem dX0_fact_56 : decode cX0_fact 56 = .ok (.isub, 1) := dk_100 (dk_at dksX0_fact_2 9 rfl rfl)
theorem dX0_fact_57 : decode cX0_fact 57 = .ok (.invokestatic 56, 3) := dk_184 0 56 (dk_at dksX0_fact_2 10 rfl rfl)
theorem dX0_fact_60 : decode cX0_fact 60 = .ok (.ifCond .eq 26, 3) := dk_153 0 26 (dk_at dksX0_fact_2 13 rfl rfl)
theorem dX0_fact_63 : decode cX0_fact 63 = .ok (.iload_n 3, 1) := dk_29 (dk_at dksX0_fact_2 16 rfl rfl)
theorem dX0_fact_64 : decode cX0_fact 64 = .ok (.iconst 0, 1) := dk_3 (dk_at dksX0_fact_2 17 rfl rfl)
theorem dX0_fact_65 : decode cX0_fact 65 = .ok (.iconst 1, 1) := dk_4 (dk_at dksX0_fact_2 18 rfl rfl)
theorem dX0_fact_66 : decode cX0_fact 66 = .ok (.invokestatic 56, 3) := dk_184 0 56 (dk_at dksX0_fact_2 19 rfl rfl)
theorem dX0_fact_69 : decode cX0_fact 69 = .ok (.ifCond .eq 17, 3) := dk_153 0 17 (dk_at dksX0_fact_3 0 rfl rfl)
theorem dX0_fact_72 : decode cX0_fact 72 = .ok (.aload 4, 2) := dk_25 4 (dk_at dksX0_fact_3 3 rfl rfl)
theorem dX0_fact_74 : decode cX0_fact 74 = .ok (.iload_n 2, 1) := dk_28 (dk_at dksX0_fact_3 5 rfl rfl)
theorem dX0_fact_75 : decode cX0_fact 75 = .ok (.invokevirtual 64, 3) := dk_182 0 64 (dk_at dksX0_fact_3 6 rfl rfl)
theorem dX0_fact_78 : decode cX0_fact 78 = .ok (.checkcast 351, 3) := dk_192 1 95 (dk_at dksX0_fact_3 9 rfl rfl)
theorem dX0_fact_81 : decode cX0_fact 81 = .ok (.iload_n 3, 1) := dk_29 (dk_at dksX0_fact_3 12 rfl rfl)
theorem dX0_fact_82 : decode cX0_fact 82 = .ok (.iaload, 1) := dk_46 (dk_at dksX0_fact_3 13 rfl rfl)
theorem dX0_fact_83 : decode cX0_fact 83 = .ok (.goto 5, 3) := dk_167 0 5 (dk_at dksX0_fact_3 14 rfl rfl)
theorem dX0_fact_86 : decode cX0_fact 86 = .ok (.bipush (-2), 2) := dk_16 254 (dk_at dksX0_fact_3 17 rfl rfl)
theorem dX0_fact_88 : decode cX0_fact 88 = .ok (.ireturn, 1) := dk_172 (dk_at dksX0_fact_3 19 rfl rfl)
abbrev cX0_fits : ByteArray := prog_1_method_35_code
def yX0_fits : MethodName := ⟨RX0, "fits", "(IIII)I"⟩
def dkwX0_fits_6 : List UInt8 := [182, 0, 64, 192, 0, 2, 182, 1, 105, 167, 0, 5, 16, 254, 172]
abbrev dktX0_fits_6 : List UInt8 := dkwX0_fits_6 ++ []
def dkwX0_fits_5 : List UInt8 := [16, 10, 100, 25, 5, 180, 1, 101, 182, 0, 96, 162, 0, 25, 25, 5, 180, 1, 101, 21, 4, 16, 10, 100]
abbrev dktX0_fits_5 : List UInt8 := dkwX0_fits_5 ++ dktX0_fits_6
def dkwX0_fits_4 : List UInt8 := [21, 4, 154, 0, 14, 25, 5, 180, 1, 101, 182, 0, 96, 167, 0, 8, 25, 5, 182, 1, 102, 172, 21, 4]
abbrev dktX0_fits_4 : List UInt8 := dkwX0_fits_4 ++ dktX0_fits_5
def dkwX0_fits_3 : List UInt8 := [180, 0, 45, 180, 0, 125, 29, 182, 0, 64, 192, 0, 65, 183, 1, 98, 58, 5, 21, 4, 5, 162, 0, 25]
abbrev dktX0_fits_3 : List UInt8 := dkwX0_fits_3 ++ dktX0_fits_4
def dkwX0_fits_2 : List UInt8 := [187, 1, 96, 89, 42, 27, 182, 0, 76, 42, 180, 0, 45, 180, 0, 116, 28, 182, 0, 64, 192, 0, 65, 42]
abbrev dktX0_fits_2 : List UInt8 := dkwX0_fits_2 ++ dktX0_fits_3
def dkwX0_fits_1 : List UInt8 := [153, 0, 19, 21, 4, 155, 0, 14, 21, 4, 5, 16, 9, 184, 0, 56, 153, 0, 6, 16, 254, 172]
abbrev dktX0_fits_1 : List UInt8 := dkwX0_fits_1 ++ dktX0_fits_2
def dkwX0_fits_0 : List UInt8 := [42, 3, 27, 182, 0, 72, 153, 0, 37, 42, 4, 28, 182, 0, 72, 153, 0, 28, 42, 5, 29, 182, 0, 72]
abbrev dktX0_fits_0 : List UInt8 := dkwX0_fits_0 ++ dktX0_fits_1
theorem dksX0_fits_0 : cX0_fits.data.toList.drop 0 = dktX0_fits_0 := by decide +kernel
theorem dksX0_fits_1 : cX0_fits.data.toList.drop 24 = dktX0_fits_1 := dk_seg dksX0_fits_0 24 rfl rfl
theorem dksX0_fits_2 : cX0_fits.data.toList.drop 46 = dktX0_fits_2 := dk_seg dksX0_fits_1 22 rfl rfl
theorem dksX0_fits_3 : cX0_fits.data.toList.drop 70 = dktX0_fits_3 := dk_seg dksX0_fits_2 24 rfl rfl
theorem dksX0_fits_4 : cX0_fits.data.toList.drop 94 = dktX0_fits_4 := dk_seg dksX0_fits_3 24 rfl rfl
theorem dksX0_fits_5 : cX0_fits.data.toList.drop 118 = dktX0_fits_5 := dk_seg dksX0_fits_4 24 rfl rfl
theorem dksX0_fits_6 : cX0_fits.data.toList.drop 142 = dktX0_fits_6 := dk_seg dksX0_fits_5 24 rfl rfl
theorem dX0_fits_0 : decode cX0_fits 0 = .ok (.aload_n 0, 1) := dk_42 (dk_at dksX0_fits_0 0 rfl rfl)
theorem dX0_fits_1 : decode cX0_fits 1 = .ok (.iconst 0, 1) := dk_3 (dk_at dksX0_fits_0 1 rfl rfl)
theorem dX0_fits_2 : decode cX0_fits 2 = .ok (.iload_n 1, 1) := dk_27 (dk_at dksX0_fits_0 2 rfl rfl)
theorem dX0_fits_3 : decode cX0_fits 3 = .ok (.invokevirtual 72, 3) := dk_182 0 72 (dk_at dksX0_fits_0 3 rfl rfl)
theorem dX0_fits_6 : decode cX0_fits 6 = .ok (.ifCond .eq 37, 3) := dk_153 0 37 (dk_at dksX0_fits_0 6 rfl rfl)
theorem dX0_fits_9 : decode cX0_fits 9 = .ok (.aload_n 0, 1) := dk_42 (dk_at dksX0_fits_0 9 rfl rfl)
theorem dX0_fits_10 : decode cX0_fits 10 = .ok (.iconst 1, 1) := dk_4 (dk_at dksX0_fits_0 10 rfl rfl)
theorem dX0_fits_11 : decode cX0_fits 11 = .ok (.iload_n 2, 1) := dk_28 (dk_at dksX0_fits_0 11 rfl rfl)
theorem dX0_fits_12 : decode cX0_fits 12 = .ok (.invokevirtual 72, 3) := dk_182 0 72 (dk_at dksX0_fits_0 12 rfl rfl)
theorem dX0_fits_15 : decode cX0_fits 15 = .ok (.ifCond .eq 28, 3) := dk_153 0 28 (dk_at dksX0_fits_0 15 rfl rfl)
theorem dX0_fits_18 : decode cX0_fits 18 = .ok (.aload_n 0, 1) := dk_42 (dk_at dksX0_fits_0 18 rfl rfl)
theorem dX0_fits_19 : decode cX0_fits 19 = .ok (.iconst 2, 1) := dk_5 (dk_at dksX0_fits_0 19 rfl rfl)
theorem dX0_fits_20 : decode cX0_fits 20 = .ok (.iload_n 3, 1) := dk_29 (dk_at dksX0_fits_0 20 rfl rfl)
theorem dX0_fits_21 : decode cX0_fits 21 = .ok (.invokevirtual 72, 3) := dk_182 0 72 (dk_at dksX0_fits_0 21 rfl rfl)
theorem dX0_fits_24 : decode cX0_fits 24 = .ok (.ifCond .eq 19, 3) := dk_153 0 19 (dk_at dksX0_fits_1 0 rfl rfl)
theorem dX0_fits_27 : decode cX0_fits 27 = .ok (.iload 4, 2) := dk_21 4 (dk_at dksX0_fits_1 3 rfl rfl)
theorem dX0_fits_29 : decode cX0_fits 29 = .ok (.ifCond .lt 14, 3) := dk_155 0 14 (dk_at dksX0_fits_1 5 rfl rfl)
theorem dX0_fits_32 : decode cX0_fits 32 = .ok (.iload 4, 2) := dk_21 4 (dk_at dksX0_fits_1 8 rfl rfl)
theorem dX0_fits_34 : decode cX0_fits 34 = .ok (.iconst 2, 1) := dk_5 (dk_at dksX0_fits_1 10 rfl rfl)
theorem dX0_fits_35 : decode cX0_fits 35 = .ok (.bipush 9, 2) := dk_16 9 (dk_at dksX0_fits_1 11 rfl rfl)
theorem dX0_fits_37 : decode cX0_fits 37 = .ok (.invokestatic 56, 3) := dk_184 0 56 (dk_at dksX0_fits_1 13 rfl rfl)
theorem dX0_fits_40 : decode cX0_fits 40 = .ok (.ifCond .eq 6, 3) := dk_153 0 6 (dk_at dksX0_fits_1 16 rfl rfl)
theorem dX0_fits_43 : decode cX0_fits 43 = .ok (.bipush (-2), 2) := dk_16 254 (dk_at dksX0_fits_1 19 rfl rfl)
theorem dX0_fits_45 : decode cX0_fits 45 = .ok (.ireturn, 1) := dk_172 (dk_at dksX0_fits_1 21 rfl rfl)
theorem dX0_fits_46 : decode cX0_fits 46 = .ok (.new 352, 3) := dk_187 1 96 (dk_at dksX0_fits_2 0 rfl rfl)
theorem dX0_fits_49 : decode cX0_fits 49 = .ok (.dup, 1) := dk_89 (dk_at dksX0_fits_2 3 rfl rfl)
theorem dX0_fits_50 : decode cX0_fits 50 = .ok (.aload_n 0, 1) := dk_42 (dk_at dksX0_fits_2 4 rfl rfl)
theorem dX0_fits_51 : decode cX0_fits 51 = .ok (.iload_n 1, 1) := dk_27 (dk_at dksX0_fits_2 5 rfl rfl)
theorem dX0_fits_52 : decode cX0_fits 52 = .ok (.invokevirtual 76, 3) := dk_182 0 76 (dk_at dksX0_fits_2 6 rfl rfl)
theorem dX0_fits_55 : decode cX0_fits 55 = .ok (.aload_n 0, 1) := dk_42 (dk_at dksX0_fits_2 9 rfl rfl)
theorem dX0_fits_56 : decode cX0_fits 56 = .ok (.getfield 45, 3) := dk_180 0 45 (dk_at dksX0_fits_2 10 rfl rfl)
theorem dX0_fits_59 : decode cX0_fits 59 = .ok (.getfield 116, 3) := dk_180 0 116 (dk_at dksX0_fits_2 13 rfl rfl)
theorem dX0_fits_62 : decode cX0_fits 62 = .ok (.iload_n 2, 1) := dk_28 (dk_at dksX0_fits_2 16 rfl rfl)
theorem dX0_fits_63 : decode cX0_fits 63 = .ok (.invokevirtual 64, 3) := dk_182 0 64 (dk_at dksX0_fits_2 17 rfl rfl)
theorem dX0_fits_66 : decode cX0_fits 66 = .ok (.checkcast 65, 3) := dk_192 0 65 (dk_at dksX0_fits_2 20 rfl rfl)
theorem dX0_fits_69 : decode cX0_fits 69 = .ok (.aload_n 0, 1) := dk_42 (dk_at dksX0_fits_2 23 rfl rfl)
theorem dX0_fits_70 : decode cX0_fits 70 = .ok (.getfield 45, 3) := dk_180 0 45 (dk_at dksX0_fits_3 0 rfl rfl)
theorem dX0_fits_73 : decode cX0_fits 73 = .ok (.getfield 125, 3) := dk_180 0 125 (dk_at dksX0_fits_3 3 rfl rfl)
theorem dX0_fits_76 : decode cX0_fits 76 = .ok (.iload_n 3, 1) := dk_29 (dk_at dksX0_fits_3 6 rfl rfl)
theorem dX0_fits_77 : decode cX0_fits 77 = .ok (.invokevirtual 64, 3) := dk_182 0 64 (dk_at dksX0_fits_3 7 rfl rfl)
theorem dX0_fits_80 : decode cX0_fits 80 = .ok (.checkcast 65, 3) := dk_192 0 65 (dk_at dksX0_fits_3 10 rfl rfl)
theorem dX0_fits_83 : decode cX0_fits 83 = .ok (.invokespecial 354, 3) := dk_183 1 98 (dk_at dksX0_fits_3 13 rfl rfl)
theorem dX0_fits_86 : decode cX0_fits 86 = .ok (.astore 5, 2) := dk_58 5 (dk_at dksX0_fits_3 16 rfl rfl)
theorem dX0_fits_88 : decode cX0_fits 88 = .ok (.iload 4, 2) := dk_21 4 (dk_at dksX0_fits_3 18 rfl rfl)
theorem dX0_fits_90 : decode cX0_fits 90 = .ok (.iconst 2, 1) := dk_5 (dk_at dksX0_fits_3 20 rfl rfl)
theorem dX0_fits_91 : decode cX0_fits 91 = .ok (.if_icmp .ge 25, 3) := dk_162 0 25 (dk_at dksX0_fits_3 21 rfl rfl)
theorem dX0_fits_94 : decode cX0_fits 94 = .ok (.iload 4, 2) := dk_21 4 (dk_at dksX0_fits_4 0 rfl rfl)
theorem dX0_fits_96 : decode cX0_fits 96 = .ok (.ifCond .ne 14, 3) := dk_154 0 14 (dk_at dksX0_fits_4 2 rfl rfl)
theorem dX0_fits_99 : decode cX0_fits 99 = .ok (.aload 5, 2) := dk_25 5 (dk_at dksX0_fits_4 5 rfl rfl)
theorem dX0_fits_101 : decode cX0_fits 101 = .ok (.getfield 357, 3) := dk_180 1 101 (dk_at dksX0_fits_4 7 rfl rfl)
theorem dX0_fits_104 : decode cX0_fits 104 = .ok (.invokevirtual 96, 3) := dk_182 0 96 (dk_at dksX0_fits_4 10 rfl rfl)
theorem dX0_fits_107 : decode cX0_fits 107 = .ok (.goto 8, 3) := dk_167 0 8 (dk_at dksX0_fits_4 13 rfl rfl)
theorem dX0_fits_110 : decode cX0_fits 110 = .ok (.aload 5, 2) := dk_25 5 (dk_at dksX0_fits_4 16 rfl rfl)
theorem dX0_fits_112 : decode cX0_fits 112 = .ok (.invokevirtual 358, 3) := dk_182 1 102 (dk_at dksX0_fits_4 18 rfl rfl)
theorem dX0_fits_115 : decode cX0_fits 115 = .ok (.ireturn, 1) := dk_172 (dk_at dksX0_fits_4 21 rfl rfl)
theorem dX0_fits_116 : decode cX0_fits 116 = .ok (.iload 4, 2) := dk_21 4 (dk_at dksX0_fits_4 22 rfl rfl)
theorem dX0_fits_118 : decode cX0_fits 118 = .ok (.bipush 10, 2) := dk_16 10 (dk_at dksX0_fits_5 0 rfl rfl)
theorem dX0_fits_120 : decode cX0_fits 120 = .ok (.isub, 1) := dk_100 (dk_at dksX0_fits_5 2 rfl rfl)
theorem dX0_fits_121 : decode cX0_fits 121 = .ok (.aload 5, 2) := dk_25 5 (dk_at dksX0_fits_5 3 rfl rfl)
theorem dX0_fits_123 : decode cX0_fits 123 = .ok (.getfield 357, 3) := dk_180 1 101 (dk_at dksX0_fits_5 5 rfl rfl)
theorem dX0_fits_126 : decode cX0_fits 126 = .ok (.invokevirtual 96, 3) := dk_182 0 96 (dk_at dksX0_fits_5 8 rfl rfl)
theorem dX0_fits_129 : decode cX0_fits 129 = .ok (.if_icmp .ge 25, 3) := dk_162 0 25 (dk_at dksX0_fits_5 11 rfl rfl)
theorem dX0_fits_132 : decode cX0_fits 132 = .ok (.aload 5, 2) := dk_25 5 (dk_at dksX0_fits_5 14 rfl rfl)
theorem dX0_fits_134 : decode cX0_fits 134 = .ok (.getfield 357, 3) := dk_180 1 101 (dk_at dksX0_fits_5 16 rfl rfl)
theorem dX0_fits_137 : decode cX0_fits 137 = .ok (.iload 4, 2) := dk_21 4 (dk_at dksX0_fits_5 19 rfl rfl)
theorem dX0_fits_139 : decode cX0_fits 139 = .ok (.bipush 10, 2) := dk_16 10 (dk_at dksX0_fits_5 21 rfl rfl)
theorem dX0_fits_141 : decode cX0_fits 141 = .ok (.isub, 1) := dk_100 (dk_at dksX0_fits_5 23 rfl rfl)
theorem dX0_fits_142 : decode cX0_fits 142 = .ok (.invokevirtual 64, 3) := dk_182 0 64 (dk_at dksX0_fits_6 0 rfl rfl)
theorem dX0_fits_145 : decode cX0_fits 145 = .ok (.checkcast 2, 3) := dk_192 0 2 (dk_at dksX0_fits_6 3 rfl rfl)
theorem dX0_fits_148 : decode cX0_fits 148 = .ok (.invokevirtual 361, 3) := dk_182 1 105 (dk_at dksX0_fits_6 6 rfl rfl)
theorem dX0_fits_151 : decode cX0_fits 151 = .ok (.goto 5, 3) := dk_167 0 5 (dk_at dksX0_fits_6 9 rfl rfl)
theorem dX0_fits_154 : decode cX0_fits 154 = .ok (.bipush (-2), 2) := dk_16 254 (dk_at dksX0_fits_6 12 rfl rfl)
theorem dX0_fits_156 : decode cX0_fits 156 = .ok (.ireturn, 1) := dk_172 (dk_at dksX0_fits_6 14 rfl rfl)
abbrev cX0_drawn : ByteArray := prog_1_method_36_code
def yX0_drawn : MethodName := ⟨RX0, "drawn", "(IIII)I"⟩
def dkwX0_drawn_2 : List UInt8 := [16, 254, 172]
abbrev dktX0_drawn_2 : List UInt8 := dkwX0_drawn_2 ++ []
def dkwX0_drawn_1 : List UInt8 := [27, 182, 0, 76, 28, 29, 183, 1, 110, 180, 1, 113, 180, 1, 23, 21, 4, 182, 1, 31, 167, 0, 5]
abbrev dktX0_drawn_1 : List UInt8 := dkwX0_drawn_1 ++ dktX0_drawn_2
def dkwX0_drawn_0 : List UInt8 := [42, 3, 27, 182, 0, 72, 153, 0, 41, 29, 3, 16, 60, 184, 0, 56, 153, 0, 31, 187, 1, 108, 89, 42]
abbrev dktX0_drawn_0 : List UInt8 := dkwX0_drawn_0 ++ dktX0_drawn_1
theorem dksX0_drawn_0 : cX0_drawn.data.toList.drop 0 = dktX0_drawn_0 := by decide +kernel
theorem dksX0_drawn_1 : cX0_drawn.data.toList.drop 24 = dktX0_drawn_1 := dk_seg dksX0_drawn_0 24 rfl rfl
theorem dksX0_drawn_2 : cX0_drawn.data.toList.drop 47 = dktX0_drawn_2 := dk_seg dksX0_drawn_1 23 rfl rfl
theorem dX0_drawn_0 : decode cX0_drawn 0 = .ok (.aload_n 0, 1) := dk_42 (dk_at dksX0_drawn_0 0 rfl rfl)
theorem dX0_drawn_1 : decode cX0_drawn 1 = .ok (.iconst 0, 1) := dk_3 (dk_at dksX0_drawn_0 1 rfl rfl)
theorem dX0_drawn_2 : decode cX0_drawn 2 = .ok (.iload_n 1, 1) := dk_27 (dk_at dksX0_drawn_0 2 rfl rfl)
theorem dX0_drawn_3 : decode cX0_drawn 3 = .ok (.invokevirtual 72, 3) := dk_182 0 72 (dk_at dksX0_drawn_0 3 rfl rfl)
theorem dX0_drawn_6 : decode cX0_drawn 6 = .ok (.ifCond .eq 41, 3) := dk_153 0 41 (dk_at dksX0_drawn_0 6 rfl rfl)
theorem dX0_drawn_9 : decode cX0_drawn 9 = .ok (.iload_n 3, 1) := dk_29 (dk_at dksX0_drawn_0 9 rfl rfl)
theorem dX0_drawn_10 : decode cX0_drawn 10 = .ok (.iconst 0, 1) := dk_3 (dk_at dksX0_drawn_0 10 rfl rfl)
theorem dX0_drawn_11 : decode cX0_drawn 11 = .ok (.bipush 60, 2) := dk_16 60 (dk_at dksX0_drawn_0 11 rfl rfl)
theorem dX0_drawn_13 : decode cX0_drawn 13 = .ok (.invokestatic 56, 3) := dk_184 0 56 (dk_at dksX0_drawn_0 13 rfl rfl)
theorem dX0_drawn_16 : decode cX0_drawn 16 = .ok (.ifCond .eq 31, 3) := dk_153 0 31 (dk_at dksX0_drawn_0 16 rfl rfl)
theorem dX0_drawn_19 : decode cX0_drawn 19 = .ok (.new 364, 3) := dk_187 1 108 (dk_at dksX0_drawn_0 19 rfl rfl)
theorem dX0_drawn_22 : decode cX0_drawn 22 = .ok (.dup, 1) := dk_89 (dk_at dksX0_drawn_0 22 rfl rfl)
theorem dX0_drawn_23 : decode cX0_drawn 23 = .ok (.aload_n 0, 1) := dk_42 (dk_at dksX0_drawn_0 23 rfl rfl)
theorem dX0_drawn_24 : decode cX0_drawn 24 = .ok (.iload_n 1, 1) := dk_27 (dk_at dksX0_drawn_1 0 rfl rfl)
theorem dX0_drawn_25 : decode cX0_drawn 25 = .ok (.invokevirtual 76, 3) := dk_182 0 76 (dk_at dksX0_drawn_1 1 rfl rfl)
theorem dX0_drawn_28 : decode cX0_drawn 28 = .ok (.iload_n 2, 1) := dk_28 (dk_at dksX0_drawn_1 4 rfl rfl)
theorem dX0_drawn_29 : decode cX0_drawn 29 = .ok (.iload_n 3, 1) := dk_29 (dk_at dksX0_drawn_1 5 rfl rfl)
theorem dX0_drawn_30 : decode cX0_drawn 30 = .ok (.invokespecial 366, 3) := dk_183 1 110 (dk_at dksX0_drawn_1 6 rfl rfl)
theorem dX0_drawn_33 : decode cX0_drawn 33 = .ok (.getfield 369, 3) := dk_180 1 113 (dk_at dksX0_drawn_1 9 rfl rfl)
theorem dX0_drawn_36 : decode cX0_drawn 36 = .ok (.getfield 279, 3) := dk_180 1 23 (dk_at dksX0_drawn_1 12 rfl rfl)
theorem dX0_drawn_39 : decode cX0_drawn 39 = .ok (.iload 4, 2) := dk_21 4 (dk_at dksX0_drawn_1 15 rfl rfl)
theorem dX0_drawn_41 : decode cX0_drawn 41 = .ok (.invokevirtual 287, 3) := dk_182 1 31 (dk_at dksX0_drawn_1 17 rfl rfl)
theorem dX0_drawn_44 : decode cX0_drawn 44 = .ok (.goto 5, 3) := dk_167 0 5 (dk_at dksX0_drawn_1 20 rfl rfl)
theorem dX0_drawn_47 : decode cX0_drawn 47 = .ok (.bipush (-2), 2) := dk_16 254 (dk_at dksX0_drawn_2 0 rfl rfl)
theorem dX0_drawn_49 : decode cX0_drawn 49 = .ok (.ireturn, 1) := dk_172 (dk_at dksX0_drawn_2 2 rfl rfl)
abbrev cX0_count : ByteArray := prog_1_method_37_code
def yX0_count : MethodName := ⟨RX0, "count", "(I)I"⟩
def dkwX0_count_0 : List UInt8 := [27, 3, 5, 184, 0, 56, 153, 0, 14, 42, 180, 0, 45, 27, 182, 0, 53, 167, 0, 5, 16, 254, 172]
abbrev dktX0_count_0 : List UInt8 := dkwX0_count_0 ++ []
theorem dksX0_count_0 : cX0_count.data.toList.drop 0 = dktX0_count_0 := by decide +kernel
theorem dX0_count_0 : decode cX0_count 0 = .ok (.iload_n 1, 1) := dk_27 (dk_at dksX0_count_0 0 rfl rfl)
theorem dX0_count_1 : decode cX0_count 1 = .ok (.iconst 0, 1) := dk_3 (dk_at dksX0_count_0 1 rfl rfl)
theorem dX0_count_2 : decode cX0_count 2 = .ok (.iconst 2, 1) := dk_5 (dk_at dksX0_count_0 2 rfl rfl)
theorem dX0_count_3 : decode cX0_count 3 = .ok (.invokestatic 56, 3) := dk_184 0 56 (dk_at dksX0_count_0 3 rfl rfl)
theorem dX0_count_6 : decode cX0_count 6 = .ok (.ifCond .eq 14, 3) := dk_153 0 14 (dk_at dksX0_count_0 6 rfl rfl)
theorem dX0_count_9 : decode cX0_count 9 = .ok (.aload_n 0, 1) := dk_42 (dk_at dksX0_count_0 9 rfl rfl)
theorem dX0_count_10 : decode cX0_count 10 = .ok (.getfield 45, 3) := dk_180 0 45 (dk_at dksX0_count_0 10 rfl rfl)
theorem dX0_count_13 : decode cX0_count 13 = .ok (.iload_n 1, 1) := dk_27 (dk_at dksX0_count_0 13 rfl rfl)
theorem dX0_count_14 : decode cX0_count 14 = .ok (.invokevirtual 53, 3) := dk_182 0 53 (dk_at dksX0_count_0 14 rfl rfl)
theorem dX0_count_17 : decode cX0_count 17 = .ok (.goto 5, 3) := dk_167 0 5 (dk_at dksX0_count_0 17 rfl rfl)
theorem dX0_count_20 : decode cX0_count 20 = .ok (.bipush (-2), 2) := dk_16 254 (dk_at dksX0_count_0 20 rfl rfl)
theorem dX0_count_22 : decode cX0_count 22 = .ok (.ireturn, 1) := dk_172 (dk_at dksX0_count_0 22 rfl rfl)
abbrev cX0_image : ByteArray := prog_1_method_38_code
def yX0_image : MethodName := ⟨RX0, "image", "(I)Z"⟩
def dkwX0_image_1 : List UInt8 := [27, 187, 0, 42, 89, 183, 0, 44, 83, 42, 180, 0, 49, 27, 50, 42, 180, 0, 45, 182, 1, 117, 4, 172]
abbrev dktX0_image_1 : List UInt8 := dkwX0_image_1 ++ []
def dkwX0_image_0 : List UInt8 := [27, 3, 5, 184, 0, 56, 154, 0, 5, 3, 172, 42, 180, 0, 49, 27, 50, 199, 0, 16, 42, 180, 0, 49]
abbrev dktX0_image_0 : List UInt8 := dkwX0_image_0 ++ dktX0_image_1
theorem dksX0_image_0 : cX0_image.data.toList.drop 0 = dktX0_image_0 := by decide +kernel
theorem dksX0_image_1 : cX0_image.data.toList.drop 24 = dktX0_image_1 := dk_seg dksX0_image_0 24 rfl rfl
theorem dX0_image_0 : decode cX0_image 0 = .ok (.iload_n 1, 1) := dk_27 (dk_at dksX0_image_0 0 rfl rfl)
theorem dX0_image_1 : decode cX0_image 1 = .ok (.iconst 0, 1) := dk_3 (dk_at dksX0_image_0 1 rfl rfl)
theorem dX0_image_2 : decode cX0_image 2 = .ok (.iconst 2, 1) := dk_5 (dk_at dksX0_image_0 2 rfl rfl)
theorem dX0_image_3 : decode cX0_image 3 = .ok (.invokestatic 56, 3) := dk_184 0 56 (dk_at dksX0_image_0 3 rfl rfl)
theorem dX0_image_6 : decode cX0_image 6 = .ok (.ifCond .ne 5, 3) := dk_154 0 5 (dk_at dksX0_image_0 6 rfl rfl)
theorem dX0_image_9 : decode cX0_image 9 = .ok (.iconst 0, 1) := dk_3 (dk_at dksX0_image_0 9 rfl rfl)
theorem dX0_image_10 : decode cX0_image 10 = .ok (.ireturn, 1) := dk_172 (dk_at dksX0_image_0 10 rfl rfl)
theorem dX0_image_11 : decode cX0_image 11 = .ok (.aload_n 0, 1) := dk_42 (dk_at dksX0_image_0 11 rfl rfl)
theorem dX0_image_12 : decode cX0_image 12 = .ok (.getfield 49, 3) := dk_180 0 49 (dk_at dksX0_image_0 12 rfl rfl)
theorem dX0_image_15 : decode cX0_image 15 = .ok (.iload_n 1, 1) := dk_27 (dk_at dksX0_image_0 15 rfl rfl)
theorem dX0_image_16 : decode cX0_image 16 = .ok (.aaload, 1) := dk_50 (dk_at dksX0_image_0 16 rfl rfl)
theorem dX0_image_17 : decode cX0_image 17 = .ok (.ifnonnull 16, 3) := dk_199 0 16 (dk_at dksX0_image_0 17 rfl rfl)
theorem dX0_image_20 : decode cX0_image 20 = .ok (.aload_n 0, 1) := dk_42 (dk_at dksX0_image_0 20 rfl rfl)
theorem dX0_image_21 : decode cX0_image 21 = .ok (.getfield 49, 3) := dk_180 0 49 (dk_at dksX0_image_0 21 rfl rfl)
theorem dX0_image_24 : decode cX0_image 24 = .ok (.iload_n 1, 1) := dk_27 (dk_at dksX0_image_1 0 rfl rfl)
theorem dX0_image_25 : decode cX0_image 25 = .ok (.new 42, 3) := dk_187 0 42 (dk_at dksX0_image_1 1 rfl rfl)
theorem dX0_image_28 : decode cX0_image 28 = .ok (.dup, 1) := dk_89 (dk_at dksX0_image_1 4 rfl rfl)
theorem dX0_image_29 : decode cX0_image 29 = .ok (.invokespecial 44, 3) := dk_183 0 44 (dk_at dksX0_image_1 5 rfl rfl)
theorem dX0_image_32 : decode cX0_image 32 = .ok (.aastore, 1) := dk_83 (dk_at dksX0_image_1 8 rfl rfl)
theorem dX0_image_33 : decode cX0_image 33 = .ok (.aload_n 0, 1) := dk_42 (dk_at dksX0_image_1 9 rfl rfl)
theorem dX0_image_34 : decode cX0_image 34 = .ok (.getfield 49, 3) := dk_180 0 49 (dk_at dksX0_image_1 10 rfl rfl)
theorem dX0_image_37 : decode cX0_image 37 = .ok (.iload_n 1, 1) := dk_27 (dk_at dksX0_image_1 13 rfl rfl)
theorem dX0_image_38 : decode cX0_image 38 = .ok (.aaload, 1) := dk_50 (dk_at dksX0_image_1 14 rfl rfl)
theorem dX0_image_39 : decode cX0_image 39 = .ok (.aload_n 0, 1) := dk_42 (dk_at dksX0_image_1 15 rfl rfl)
theorem dX0_image_40 : decode cX0_image 40 = .ok (.getfield 45, 3) := dk_180 0 45 (dk_at dksX0_image_1 16 rfl rfl)
theorem dX0_image_43 : decode cX0_image 43 = .ok (.invokevirtual 373, 3) := dk_182 1 117 (dk_at dksX0_image_1 19 rfl rfl)
theorem dX0_image_46 : decode cX0_image 46 = .ok (.iconst 1, 1) := dk_4 (dk_at dksX0_image_1 22 rfl rfl)
theorem dX0_image_47 : decode cX0_image 47 = .ok (.ireturn, 1) := dk_172 (dk_at dksX0_image_1 23 rfl rfl)
abbrev cX0_again : ByteArray := prog_1_method_39_code
def yX0_again : MethodName := ⟨RX0, "again", "(I)Z"⟩
def dkwX0_again_1 : List UInt8 := [42, 180, 0, 49, 27, 50, 182, 1, 117, 4, 172]
abbrev dktX0_again_1 : List UInt8 := dkwX0_again_1 ++ []
def dkwX0_again_0 : List UInt8 := [27, 3, 5, 184, 0, 56, 153, 0, 12, 42, 180, 0, 49, 27, 50, 199, 0, 5, 3, 172, 42, 180, 0, 45]
abbrev dktX0_again_0 : List UInt8 := dkwX0_again_0 ++ dktX0_again_1
theorem dksX0_again_0 : cX0_again.data.toList.drop 0 = dktX0_again_0 := by decide +kernel
theorem dksX0_again_1 : cX0_again.data.toList.drop 24 = dktX0_again_1 := dk_seg dksX0_again_0 24 rfl rfl
theorem dX0_again_0 : decode cX0_again 0 = .ok (.iload_n 1, 1) := dk_27 (dk_at dksX0_again_0 0 rfl rfl)
theorem dX0_again_1 : decode cX0_again 1 = .ok (.iconst 0, 1) := dk_3 (dk_at dksX0_again_0 1 rfl rfl)
theorem dX0_again_2 : decode cX0_again 2 = .ok (.iconst 2, 1) := dk_5 (dk_at dksX0_again_0 2 rfl rfl)
theorem dX0_again_3 : decode cX0_again 3 = .ok (.invokestatic 56, 3) := dk_184 0 56 (dk_at dksX0_again_0 3 rfl rfl)
theorem dX0_again_6 : decode cX0_again 6 = .ok (.ifCond .eq 12, 3) := dk_153 0 12 (dk_at dksX0_again_0 6 rfl rfl)
theorem dX0_again_9 : decode cX0_again 9 = .ok (.aload_n 0, 1) := dk_42 (dk_at dksX0_again_0 9 rfl rfl)
theorem dX0_again_10 : decode cX0_again 10 = .ok (.getfield 49, 3) := dk_180 0 49 (dk_at dksX0_again_0 10 rfl rfl)
theorem dX0_again_13 : decode cX0_again 13 = .ok (.iload_n 1, 1) := dk_27 (dk_at dksX0_again_0 13 rfl rfl)
theorem dX0_again_14 : decode cX0_again 14 = .ok (.aaload, 1) := dk_50 (dk_at dksX0_again_0 14 rfl rfl)
theorem dX0_again_15 : decode cX0_again 15 = .ok (.ifnonnull 5, 3) := dk_199 0 5 (dk_at dksX0_again_0 15 rfl rfl)
theorem dX0_again_18 : decode cX0_again 18 = .ok (.iconst 0, 1) := dk_3 (dk_at dksX0_again_0 18 rfl rfl)
theorem dX0_again_19 : decode cX0_again 19 = .ok (.ireturn, 1) := dk_172 (dk_at dksX0_again_0 19 rfl rfl)
theorem dX0_again_20 : decode cX0_again 20 = .ok (.aload_n 0, 1) := dk_42 (dk_at dksX0_again_0 20 rfl rfl)
theorem dX0_again_21 : decode cX0_again 21 = .ok (.getfield 45, 3) := dk_180 0 45 (dk_at dksX0_again_0 21 rfl rfl)
theorem dX0_again_24 : decode cX0_again 24 = .ok (.aload_n 0, 1) := dk_42 (dk_at dksX0_again_1 0 rfl rfl)
theorem dX0_again_25 : decode cX0_again 25 = .ok (.getfield 49, 3) := dk_180 0 49 (dk_at dksX0_again_1 1 rfl rfl)
theorem dX0_again_28 : decode cX0_again 28 = .ok (.iload_n 1, 1) := dk_27 (dk_at dksX0_again_1 4 rfl rfl)
theorem dX0_again_29 : decode cX0_again 29 = .ok (.aaload, 1) := dk_50 (dk_at dksX0_again_1 5 rfl rfl)
theorem dX0_again_30 : decode cX0_again 30 = .ok (.invokevirtual 373, 3) := dk_182 1 117 (dk_at dksX0_again_1 6 rfl rfl)
theorem dX0_again_33 : decode cX0_again 33 = .ok (.iconst 1, 1) := dk_4 (dk_at dksX0_again_1 9 rfl rfl)
theorem dX0_again_34 : decode cX0_again 34 = .ok (.ireturn, 1) := dk_172 (dk_at dksX0_again_1 10 rfl rfl)
theorem q126 : (Jvm.Cond.initialized "AskedNames") ∈ lw_all := lw_g (lw_at lw_m1 1 rfl) rfl
theorem q175 : (Jvm.Cond.instantiable "AskedNames" (2 : Nat)) ∈ lw_all := lw_g (lw_at lw_m1 50 rfl) rfl
theorem q177 : (Jvm.Cond.instanceMethod ({ cls := "AskedNames", name := "<init>", desc := "()V" } : Jvm.MethodName)) ∈ lw_all := lw_g (lw_at lw_m1 52 rfl) rfl
theorem q178 : (Jvm.Cond.code ({ cls := "AskedNames", name := "<init>", desc := "()V" } : Jvm.MethodName) prog_1_method_7_code (1 : Nat) (Option.none : Option Jvm.ClassFile.FieldType)) ∈ lw_all := lw_g (lw_at lw_m1 53 rfl) rfl
theorem q179 : (Jvm.Cond.methodLink "AskedNames" (37 : Nat) ({ cls := "java/lang/Object", name := "<init>", desc := "()V" } : Jvm.MethodName)) ∈ lw_all := lw_g (lw_at lw_m1 54 rfl) rfl
theorem q182 : (Jvm.Cond.classLink "AskedNames" (42 : Nat) "AskedNames$State") ∈ lw_all := lw_g (lw_at lw_m1 57 rfl) rfl
theorem q184 : (Jvm.Cond.methodLinkNest "AskedNames" (44 : Nat) ({ cls := "AskedNames$State", name := "<init>", desc := "()V" } : Jvm.MethodName) "AskedNames") ∈ lw_tbl := lw_at lw_m1 59 rfl
theorem q221 : (Jvm.Cond.fieldLinkNest "AskedNames" (88 : Nat) "AskedNames$State" "tape" "[B" "AskedNames") ∈ lw_tbl := lw_at lw_m1 96 rfl
theorem q223 : (Jvm.Cond.fieldLinkNest "AskedNames" (84 : Nat) "AskedNames$State" "taped" "I" "AskedNames") ∈ lw_tbl := lw_at lw_m1 98 rfl
theorem q225 : (Jvm.Cond.fieldLinkNest "AskedNames" (132 : Nat) "AskedNames$State" "faultKind" "I" "AskedNames") ∈ lw_tbl := lw_at lw_m1 100 rfl
theorem q227 : (Jvm.Cond.fieldLinkNest "AskedNames" (135 : Nat) "AskedNames$State" "faultPlace" "I" "AskedNames") ∈ lw_tbl := lw_at lw_m1 102 rfl
theorem q229 : (Jvm.Cond.fieldLinkNest "AskedNames" (60 : Nat) "AskedNames$State" "nets" "Ljava/util/ArrayList;" "AskedNames") ∈ lw_tbl := lw_at lw_m1 104 rfl
theorem q231 : (Jvm.Cond.fieldLinkNest "AskedNames" (116 : Nat) "AskedNames$State" "runs" "Ljava/util/ArrayList;" "AskedNames") ∈ lw_tbl := lw_at lw_m1 106 rfl
theorem q233 : (Jvm.Cond.fieldLinkNest "AskedNames" (125 : Nat) "AskedNames$State" "logs" "Ljava/util/ArrayList;" "AskedNames") ∈ lw_tbl := lw_at lw_m1 108 rfl
theorem q250 : (Jvm.Cond.fieldLink "AskedNames" (45 : Nat) "AskedNames" "now" "LAskedNames$State;") ∈ lw_all := lw_g (lw_at lw_m1 125 rfl) rfl
theorem q251 : (Jvm.Cond.fieldLink "AskedNames" (49 : Nat) "AskedNames" "kept" "[LAskedNames$State;") ∈ lw_all := lw_g (lw_at lw_m1 126 rfl) rfl
theorem q252 : (Jvm.Cond.laysFinal "AskedNames" "AskedNames" "now" "LAskedNames$State;") ∈ lw_all := lw_g (lw_at lw_m1 127 rfl) rfl
theorem q253 : (Jvm.Cond.soleField "AskedNames" "now") ∈ lw_all := lw_g (lw_at lw_m1 128 rfl) rfl
theorem q254 : (Jvm.Cond.laysFinal "AskedNames" "AskedNames" "kept" "[LAskedNames$State;") ∈ lw_all := lw_g (lw_at lw_m1 129 rfl) rfl
theorem q255 : (Jvm.Cond.soleField "AskedNames" "kept") ∈ lw_all := lw_g (lw_at lw_m1 130 rfl) rfl
theorem q256 : (Jvm.Cond.superclass "AskedNames" "java/lang/Object") ∈ lw_all := lw_g (lw_at lw_m1 131 rfl) rfl
theorem q258 : (Jvm.Cond.instanceMethod ({ cls := "AskedNames", name := "feed", desc := "(IIIII)I" } : Jvm.MethodName)) ∈ lw_all := lw_g (lw_at lw_m1 133 rfl) rfl
theorem q259 : (Jvm.Cond.selects "AskedNames" ({ cls := "AskedNames", name := "feed", desc := "(IIIII)I" } : Jvm.MethodName) ({ cls := "AskedNames", name := "feed", desc := "(IIIII)I" } : Jvm.MethodName)) ∈ lw_all := lw_g (lw_at lw_m1 134 rfl) rfl
theorem q260 : (Jvm.Cond.code ({ cls := "AskedNames", name := "feed", desc := "(IIIII)I" } : Jvm.MethodName) prog_1_method_11_code (8 : Nat) (Option.some Jvm.ClassFile.FieldType.int)) ∈ lw_all := lw_g (lw_at lw_m1 135 rfl) rfl
theorem q262 : (Jvm.Cond.instanceMethod ({ cls := "AskedNames", name := "end", desc := "(I)I" } : Jvm.MethodName)) ∈ lw_all := lw_g (lw_at lw_m1 137 rfl) rfl
theorem q263 : (Jvm.Cond.selects "AskedNames" ({ cls := "AskedNames", name := "end", desc := "(I)I" } : Jvm.MethodName) ({ cls := "AskedNames", name := "end", desc := "(I)I" } : Jvm.MethodName)) ∈ lw_all := lw_g (lw_at lw_m1 138 rfl) rfl
theorem q264 : (Jvm.Cond.code ({ cls := "AskedNames", name := "end", desc := "(I)I" } : Jvm.MethodName) prog_1_method_12_code (2 : Nat) (Option.some Jvm.ClassFile.FieldType.int)) ∈ lw_all := lw_g (lw_at lw_m1 139 rfl) rfl
theorem q266 : (Jvm.Cond.instanceMethod ({ cls := "AskedNames", name := "text", desc := "(II)I" } : Jvm.MethodName)) ∈ lw_all := lw_g (lw_at lw_m1 141 rfl) rfl
theorem q267 : (Jvm.Cond.selects "AskedNames" ({ cls := "AskedNames", name := "text", desc := "(II)I" } : Jvm.MethodName) ({ cls := "AskedNames", name := "text", desc := "(II)I" } : Jvm.MethodName)) ∈ lw_all := lw_g (lw_at lw_m1 142 rfl) rfl
theorem q268 : (Jvm.Cond.codeWith ({ cls := "AskedNames", name := "text", desc := "(II)I" } : Jvm.MethodName) prog_1_method_15_code (5 : Nat) (Option.some Jvm.ClassFile.FieldType.int) [((73 : Nat), (80 : Nat), (81 : Nat), (142 : Nat))]) ∈ lw_all := lw_g (lw_at lw_m1 143 rfl) rfl
theorem q269 : (Jvm.Cond.classLink "AskedNames" (142 : Nat) "AskedNames$Fault") ∈ lw_all := lw_g (lw_at lw_m1 144 rfl) rfl
theorem q270 : (Jvm.Cond.methodLink "AskedNames" (56 : Nat) ({ cls := "AskedNames", name := "isIn", desc := "(III)Z" } : Jvm.MethodName)) ∈ lw_all := lw_g (lw_at lw_m1 145 rfl) rfl
theorem q271 : (Jvm.Cond.static ({ cls := "AskedNames", name := "isIn", desc := "(III)Z" } : Jvm.MethodName)) ∈ lw_all := lw_g (lw_at lw_m1 146 rfl) rfl
theorem q272 : (Jvm.Cond.code ({ cls := "AskedNames", name := "isIn", desc := "(III)Z" } : Jvm.MethodName) prog_1_method_1_code (3 : Nat) (Option.some Jvm.ClassFile.FieldType.boolean)) ∈ lw_all := lw_g (lw_at lw_m1 147 rfl) rfl
theorem q273 : (Jvm.Cond.methodLink "AskedNames" (53 : Nat) ({ cls := "AskedNames$State", name := "many", desc := "(I)I" } : Jvm.MethodName)) ∈ lw_all := lw_g (lw_at lw_m1 148 rfl) rfl
theorem q281 : (Jvm.Cond.methodLink "AskedNames" (72 : Nat) ({ cls := "AskedNames", name := "is", desc := "(II)Z" } : Jvm.MethodName)) ∈ lw_all := lw_g (lw_at lw_m1 156 rfl) rfl
theorem q282 : (Jvm.Cond.privateMethod ({ cls := "AskedNames", name := "is", desc := "(II)Z" } : Jvm.MethodName)) ∈ lw_tbl := lw_at lw_m1 157 rfl
theorem q283 : (Jvm.Cond.instanceMethod ({ cls := "AskedNames", name := "is", desc := "(II)Z" } : Jvm.MethodName)) ∈ lw_all := lw_g (lw_at lw_m1 158 rfl) rfl
theorem q284 : (Jvm.Cond.code ({ cls := "AskedNames", name := "is", desc := "(II)Z" } : Jvm.MethodName) prog_1_method_8_code (3 : Nat) (Option.some Jvm.ClassFile.FieldType.boolean)) ∈ lw_all := lw_g (lw_at lw_m1 159 rfl) rfl
theorem q285 : (Jvm.Cond.methodLink "AskedNames" (138 : Nat) ({ cls := "AskedNames", name := "reads", desc := "(III)I" } : Jvm.MethodName)) ∈ lw_all := lw_g (lw_at lw_m1 160 rfl) rfl
theorem q286 : (Jvm.Cond.privateMethod ({ cls := "AskedNames", name := "reads", desc := "(III)I" } : Jvm.MethodName)) ∈ lw_tbl := lw_at lw_m1 161 rfl
theorem q287 : (Jvm.Cond.instanceMethod ({ cls := "AskedNames", name := "reads", desc := "(III)I" } : Jvm.MethodName)) ∈ lw_all := lw_g (lw_at lw_m1 162 rfl) rfl
theorem q288 : (Jvm.Cond.code ({ cls := "AskedNames", name := "reads", desc := "(III)I" } : Jvm.MethodName) prog_1_method_14_code (4 : Nat) (Option.some Jvm.ClassFile.FieldType.int)) ∈ lw_all := lw_g (lw_at lw_m1 163 rfl) rfl
theorem q289 : (Jvm.Cond.classLink "AskedNames" (103 : Nat) "AskedNames$NetReader") ∈ lw_all := lw_g (lw_at lw_m1 164 rfl) rfl
theorem q291 : (Jvm.Cond.methodLink "AskedNames" (105 : Nat) ({ cls := "AskedNames$NetReader", name := "<init>", desc := "([BI)V" } : Jvm.MethodName)) ∈ lw_all := lw_g (lw_at lw_m1 166 rfl) rfl
theorem q532 : (Jvm.Cond.fieldLinkNest "AskedNames" (169 : Nat) "AskedNames$Net" "nodes" "I" "AskedNames") ∈ lw_tbl := lw_at lw_m2 167 rfl
theorem q536 : (Jvm.Cond.fieldLinkNest "AskedNames" (172 : Nat) "AskedNames$Net" "life" "I" "AskedNames") ∈ lw_tbl := lw_at lw_m2 171 rfl
theorem q539 : (Jvm.Cond.fieldLinkNest "AskedNames" (184 : Nat) "AskedNames$Net" "room" "[I" "AskedNames") ∈ lw_tbl := lw_at lw_m2 174 rfl
theorem q547 : (Jvm.Cond.fieldLinkNest "AskedNames" (175 : Nat) "AskedNames$Net" "links" "Ljava/util/ArrayList;" "AskedNames") ∈ lw_tbl := lw_at lw_m2 182 rfl
theorem q551 : (Jvm.Cond.fieldLinkNest "AskedNames" (178 : Nat) "AskedNames$Net" "routes" "Ljava/util/ArrayList;" "AskedNames") ∈ lw_tbl := lw_at lw_m2 186 rfl
theorem q555 : (Jvm.Cond.fieldLinkNest "AskedNames" (181 : Nat) "AskedNames$Net" "serves" "Ljava/util/ArrayList;" "AskedNames") ∈ lw_tbl := lw_at lw_m2 190 rfl
theorem q603 : (Jvm.Cond.methodLink "AskedNames" (108 : Nat) ({ cls := "AskedNames$NetReader", name := "read", desc := "()LAskedNames$Net;" } : Jvm.MethodName)) ∈ lw_all := lw_g (lw_at lw_m2 238 rfl) rfl
theorem q697 : (Jvm.Cond.fieldLinkNest "AskedNames" (144 : Nat) "AskedNames$Fault" "kind" "I" "AskedNames") ∈ lw_tbl := lw_at lw_m3 92 rfl
theorem q700 : (Jvm.Cond.fieldLinkNest "AskedNames" (147 : Nat) "AskedNames$Fault" "place" "I" "AskedNames") ∈ lw_tbl := lw_at lw_m3 95 rfl
theorem q756 : (Jvm.Cond.selects "AskedNames" ({ cls := "java/lang/Object", name := "getClass", desc := "()Ljava/lang/Class;" } : Jvm.MethodName) ({ cls := "java/lang/Object", name := "getClass", desc := "()Ljava/lang/Class;" } : Jvm.MethodName)) ∈ lw_all := lw_g (lw_at lw_m3 151 rfl) rfl
theorem q858 : (Jvm.Cond.fieldLinkNest "AskedNames" (152 : Nat) "AskedNames$Route" "node" "I" "AskedNames") ∈ lw_tbl := lw_at lw_m4 13 rfl
theorem q862 : (Jvm.Cond.fieldLinkNest "AskedNames" (163 : Nat) "AskedNames$Route" "to" "I" "AskedNames") ∈ lw_tbl := lw_at lw_m4 17 rfl
theorem q865 : (Jvm.Cond.fieldLinkNest "AskedNames" (166 : Nat) "AskedNames$Route" "cost" "I" "AskedNames") ∈ lw_tbl := lw_at lw_m4 20 rfl
theorem q870 : (Jvm.Cond.fieldLinkNest "AskedNames" (155 : Nat) "AskedNames$Route" "name" "Ljava/lang/String;" "AskedNames") ∈ lw_tbl := lw_at lw_m4 25 rfl
theorem q888 : (Jvm.Cond.laysStatic "AskedNames" "DOINGS" "[LAskedNames$Doing;") ∈ lw_tbl := lw_at lw_m4 43 rfl
theorem q925 : (Jvm.Cond.fieldLinkNest "AskedNames" (245 : Nat) "AskedNames$Deed" "doing" "LAskedNames$Doing;" "AskedNames") ∈ lw_tbl := lw_at lw_m4 80 rfl
theorem q928 : (Jvm.Cond.fieldLinkNest "AskedNames" (254 : Nat) "AskedNames$Deed" "a" "I" "AskedNames") ∈ lw_tbl := lw_at lw_m4 83 rfl
theorem q931 : (Jvm.Cond.fieldLinkNest "AskedNames" (262 : Nat) "AskedNames$Deed" "b" "I" "AskedNames") ∈ lw_tbl := lw_at lw_m4 86 rfl
theorem q934 : (Jvm.Cond.fieldLinkNest "AskedNames" (261 : Nat) "AskedNames$Deed" "name" "Ljava/lang/String;" "AskedNames") ∈ lw_tbl := lw_at lw_m4 89 rfl
theorem q954 : (Jvm.Cond.methodLink "AskedNames" (112 : Nat) ({ cls := "AskedNames", name := "puts", desc := "(Ljava/util/ArrayList;ILjava/lang/Object;)I" } : Jvm.MethodName)) ∈ lw_all := lw_g (lw_at lw_m4 109 rfl) rfl
theorem q955 : (Jvm.Cond.static ({ cls := "AskedNames", name := "puts", desc := "(Ljava/util/ArrayList;ILjava/lang/Object;)I" } : Jvm.MethodName)) ∈ lw_all := lw_g (lw_at lw_m4 110 rfl) rfl
theorem q956 : (Jvm.Cond.code ({ cls := "AskedNames", name := "puts", desc := "(Ljava/util/ArrayList;ILjava/lang/Object;)I" } : Jvm.MethodName) prog_1_method_13_code (3 : Nat) (Option.some Jvm.ClassFile.FieldType.int)) ∈ lw_all := lw_g (lw_at lw_m4 111 rfl) rfl
theorem q957 : (Jvm.Cond.methodLink "AskedNames" (92 : Nat) ({ cls := "java/util/ArrayList", name := "add", desc := "(Ljava/lang/Object;)Z" } : Jvm.MethodName)) ∈ lw_all := lw_g (lw_at lw_m4 112 rfl) rfl
theorem q958 : (Jvm.Cond.methodLink "AskedNames" (96 : Nat) ({ cls := "java/util/ArrayList", name := "size", desc := "()I" } : Jvm.MethodName)) ∈ lw_all := lw_g (lw_at lw_m4 113 rfl) rfl
theorem q959 : (Jvm.Cond.methodLink "AskedNames" (99 : Nat) ({ cls := "java/util/ArrayList", name := "set", desc := "(ILjava/lang/Object;)Ljava/lang/Object;" } : Jvm.MethodName)) ∈ lw_all := lw_g (lw_at lw_m4 114 rfl) rfl
theorem q971 : (Jvm.Cond.classLink "AskedNames" (119 : Nat) "AskedNames$RunReader") ∈ lw_all := lw_g (lw_at lw_m4 126 rfl) rfl
theorem q973 : (Jvm.Cond.methodLink "AskedNames" (121 : Nat) ({ cls := "AskedNames$RunReader", name := "<init>", desc := "([BI)V" } : Jvm.MethodName)) ∈ lw_all := lw_g (lw_at lw_m4 128 rfl) rfl
theorem q991 : (Jvm.Cond.methodLink "AskedNames" (122 : Nat) ({ cls := "AskedNames$RunReader", name := "read", desc := "()Ljava/util/ArrayList;" } : Jvm.MethodName)) ∈ lw_all := lw_g (lw_at lw_m4 146 rfl) rfl
theorem q998 : (Jvm.Cond.classLink "AskedNames" (128 : Nat) "AskedNames$LogReader") ∈ lw_all := lw_g (lw_at lw_m4 153 rfl) rfl
theorem q1000 : (Jvm.Cond.methodLink "AskedNames" (130 : Nat) ({ cls := "AskedNames$LogReader", name := "<init>", desc := "([BI)V" } : Jvm.MethodName)) ∈ lw_all := lw_g (lw_at lw_m4 155 rfl) rfl
theorem q1018 : (Jvm.Cond.methodLink "AskedNames" (131 : Nat) ({ cls := "AskedNames$LogReader", name := "read", desc := "()Ljava/util/ArrayList;" } : Jvm.MethodName)) ∈ lw_all := lw_g (lw_at lw_m4 173 rfl) rfl
theorem q1026 : (Jvm.Cond.instanceMethod ({ cls := "AskedNames", name := "fault", desc := "(I)I" } : Jvm.MethodName)) ∈ lw_all := lw_g (lw_at lw_m4 181 rfl) rfl
theorem q1027 : (Jvm.Cond.selects "AskedNames" ({ cls := "AskedNames", name := "fault", desc := "(I)I" } : Jvm.MethodName) ({ cls := "AskedNames", name := "fault", desc := "(I)I" } : Jvm.MethodName)) ∈ lw_all := lw_g (lw_at lw_m4 182 rfl) rfl
theorem q1028 : (Jvm.Cond.code ({ cls := "AskedNames", name := "fault", desc := "(I)I" } : Jvm.MethodName) prog_1_method_16_code (2 : Nat) (Option.some Jvm.ClassFile.FieldType.int)) ∈ lw_all := lw_g (lw_at lw_m4 183 rfl) rfl
theorem q1030 : (Jvm.Cond.instanceMethod ({ cls := "AskedNames", name := "net", desc := "(II)I" } : Jvm.MethodName)) ∈ lw_all := lw_g (lw_at lw_m4 185 rfl) rfl
theorem q1031 : (Jvm.Cond.selects "AskedNames" ({ cls := "AskedNames", name := "net", desc := "(II)I" } : Jvm.MethodName) ({ cls := "AskedNames", name := "net", desc := "(II)I" } : Jvm.MethodName)) ∈ lw_all := lw_g (lw_at lw_m4 186 rfl) rfl
theorem q1032 : (Jvm.Cond.code ({ cls := "AskedNames", name := "net", desc := "(II)I" } : Jvm.MethodName) prog_1_method_18_code (7 : Nat) (Option.some Jvm.ClassFile.FieldType.int)) ∈ lw_all := lw_g (lw_at lw_m4 187 rfl) rfl
theorem q1033 : (Jvm.Cond.methodLink "AskedNames" (76 : Nat) ({ cls := "AskedNames", name := "netOf", desc := "(I)LAskedNames$Net;" } : Jvm.MethodName)) ∈ lw_all := lw_g (lw_at lw_m4 188 rfl) rfl
theorem q1034 : (Jvm.Cond.privateMethod ({ cls := "AskedNames", name := "netOf", desc := "(I)LAskedNames$Net;" } : Jvm.MethodName)) ∈ lw_tbl := lw_at lw_m4 189 rfl
theorem q1035 : (Jvm.Cond.instanceMethod ({ cls := "AskedNames", name := "netOf", desc := "(I)LAskedNames$Net;" } : Jvm.MethodName)) ∈ lw_all := lw_g (lw_at lw_m4 190 rfl) rfl
theorem q1036 : (Jvm.Cond.code ({ cls := "AskedNames", name := "netOf", desc := "(I)LAskedNames$Net;" } : Jvm.MethodName) prog_1_method_9_code (2 : Nat) (Option.some (Jvm.ClassFile.FieldType.object "AskedNames$Net"))) ∈ lw_all := lw_g (lw_at lw_m4 191 rfl) rfl
theorem q1037 : (Jvm.Cond.methodLink "AskedNames" (64 : Nat) ({ cls := "java/util/ArrayList", name := "get", desc := "(I)Ljava/lang/Object;" } : Jvm.MethodName)) ∈ lw_all := lw_g (lw_at lw_m4 192 rfl) rfl
theorem q1041 : (Jvm.Cond.classLink "AskedNames" (70 : Nat) "AskedNames$Net") ∈ lw_all := lw_g (lw_at lw_m4 196 rfl) rfl
theorem q1042 : (Jvm.Cond.methodLink "AskedNames" (80 : Nat) ({ cls := "AskedNames$Net", name := "isNode", desc := "(I)Z" } : Jvm.MethodName)) ∈ lw_all := lw_g (lw_at lw_m4 197 rfl) rfl
theorem q1047 : (Jvm.Cond.methodLink "AskedNames" (188 : Nat) ({ cls := "AskedNames", name := "told", desc := "(Ljava/util/ArrayList;II)I" } : Jvm.MethodName)) ∈ lw_all := lw_g (lw_at lw_m4 202 rfl) rfl
theorem q1048 : (Jvm.Cond.static ({ cls := "AskedNames", name := "told", desc := "(Ljava/util/ArrayList;II)I" } : Jvm.MethodName)) ∈ lw_all := lw_g (lw_at lw_m4 203 rfl) rfl
theorem q1049 : (Jvm.Cond.code ({ cls := "AskedNames", name := "told", desc := "(Ljava/util/ArrayList;II)I" } : Jvm.MethodName) prog_1_method_17_code (4 : Nat) (Option.some Jvm.ClassFile.FieldType.int)) ∈ lw_all := lw_g (lw_at lw_m4 204 rfl) rfl
theorem q1050 : (Jvm.Cond.classLink "AskedNames" (150 : Nat) "AskedNames$Route") ∈ lw_all := lw_g (lw_at lw_m4 205 rfl) rfl
theorem q1051 : (Jvm.Cond.methodLink "AskedNames" (159 : Nat) ({ cls := "AskedNames", name := "code", desc := "(Ljava/lang/String;)I" } : Jvm.MethodName)) ∈ lw_all := lw_g (lw_at lw_m4 206 rfl) rfl
theorem q1052 : (Jvm.Cond.static ({ cls := "AskedNames", name := "code", desc := "(Ljava/lang/String;)I" } : Jvm.MethodName)) ∈ lw_all := lw_g (lw_at lw_m4 207 rfl) rfl
theorem q1053 : (Jvm.Cond.code ({ cls := "AskedNames", name := "code", desc := "(Ljava/lang/String;)I" } : Jvm.MethodName) prog_1_method_5_code (3 : Nat) (Option.some Jvm.ClassFile.FieldType.int)) ∈ lw_all := lw_g (lw_at lw_m4 208 rfl) rfl
theorem q1054 : (Jvm.Cond.methodLink "AskedNames" (13 : Nat) ({ cls := "java/lang/String", name := "length", desc := "()I" } : Jvm.MethodName)) ∈ lw_all := lw_g (lw_at lw_m4 209 rfl) rfl
theorem q1055 : (Jvm.Cond.methodLink "AskedNames" (19 : Nat) ({ cls := "java/lang/String", name := "charAt", desc := "(I)C" } : Jvm.MethodName)) ∈ lw_all := lw_g (lw_at lw_m4 210 rfl) rfl
theorem q1070 : (Jvm.Cond.methodLink "AskedNames" (192 : Nat) ({ cls := "AskedNames$Net", name := "isLink", desc := "(II)Z" } : Jvm.MethodName)) ∈ lw_all := lw_g (lw_at lw_m4 225 rfl) rfl
theorem q1075 : (Jvm.Cond.methodLink "AskedNames" (195 : Nat) ({ cls := "AskedNames$Net", name := "delay", desc := "(II)I" } : Jvm.MethodName)) ∈ lw_all := lw_g (lw_at lw_m4 230 rfl) rfl
theorem q1077 : (Jvm.Cond.instanceMethod ({ cls := "AskedNames", name := "table", desc := "(III)I" } : Jvm.MethodName)) ∈ lw_all := lw_g (lw_at lw_m4 232 rfl) rfl
theorem q1078 : (Jvm.Cond.selects "AskedNames" ({ cls := "AskedNames", name := "table", desc := "(III)I" } : Jvm.MethodName) ({ cls := "AskedNames", name := "table", desc := "(III)I" } : Jvm.MethodName)) ∈ lw_all := lw_g (lw_at lw_m4 233 rfl) rfl
theorem q1079 : (Jvm.Cond.code ({ cls := "AskedNames", name := "table", desc := "(III)I" } : Jvm.MethodName) prog_1_method_19_code (4 : Nat) (Option.some Jvm.ClassFile.FieldType.int)) ∈ lw_all := lw_g (lw_at lw_m4 234 rfl) rfl
theorem q1080 : (Jvm.Cond.methodLink "AskedNames" (198 : Nat) ({ cls := "AskedNames", name := "isNode", desc := "(II)Z" } : Jvm.MethodName)) ∈ lw_all := lw_g (lw_at lw_m4 235 rfl) rfl
theorem q1081 : (Jvm.Cond.privateMethod ({ cls := "AskedNames", name := "isNode", desc := "(II)Z" } : Jvm.MethodName)) ∈ lw_tbl := lw_at lw_m4 236 rfl
theorem q1082 : (Jvm.Cond.instanceMethod ({ cls := "AskedNames", name := "isNode", desc := "(II)Z" } : Jvm.MethodName)) ∈ lw_all := lw_g (lw_at lw_m4 237 rfl) rfl
theorem q1083 : (Jvm.Cond.code ({ cls := "AskedNames", name := "isNode", desc := "(II)Z" } : Jvm.MethodName) prog_1_method_10_code (3 : Nat) (Option.some Jvm.ClassFile.FieldType.boolean)) ∈ lw_all := lw_g (lw_at lw_m4 238 rfl) rfl
theorem q1084 : (Jvm.Cond.methodLink "AskedNames" (200 : Nat) ({ cls := "AskedNames$Net", name := "rows", desc := "(I)I" } : Jvm.MethodName)) ∈ lw_all := lw_g (lw_at lw_m4 239 rfl) rfl
theorem q1238 : (Jvm.Cond.methodLink "AskedNames" (203 : Nat) ({ cls := "AskedNames$Net", name := "routes", desc := "(I)I" } : Jvm.MethodName)) ∈ lw_all := lw_g (lw_at lw_m5 153 rfl) rfl
theorem q1289 : (Jvm.Cond.instanceMethod ({ cls := "AskedNames", name := "ways", desc := "(IIIZ)I" } : Jvm.MethodName)) ∈ lw_all := lw_g (lw_at lw_m5 204 rfl) rfl
theorem q1290 : (Jvm.Cond.selects "AskedNames" ({ cls := "AskedNames", name := "ways", desc := "(IIIZ)I" } : Jvm.MethodName) ({ cls := "AskedNames", name := "ways", desc := "(IIIZ)I" } : Jvm.MethodName)) ∈ lw_all := lw_g (lw_at lw_m5 205 rfl) rfl
theorem q1291 : (Jvm.Cond.code ({ cls := "AskedNames", name := "ways", desc := "(IIIZ)I" } : Jvm.MethodName) prog_1_method_20_code (6 : Nat) (Option.some Jvm.ClassFile.FieldType.int)) ∈ lw_all := lw_g (lw_at lw_m5 206 rfl) rfl
theorem q1292 : (Jvm.Cond.methodLink "AskedNames" (205 : Nat) ({ cls := "AskedNames", name := "name", desc := "(I)Ljava/lang/String;" } : Jvm.MethodName)) ∈ lw_all := lw_g (lw_at lw_m5 207 rfl) rfl
theorem q1293 : (Jvm.Cond.static ({ cls := "AskedNames", name := "name", desc := "(I)Ljava/lang/String;" } : Jvm.MethodName)) ∈ lw_all := lw_g (lw_at lw_m5 208 rfl) rfl
theorem q1294 : (Jvm.Cond.code ({ cls := "AskedNames", name := "name", desc := "(I)Ljava/lang/String;" } : Jvm.MethodName) prog_1_method_6_code (4 : Nat) (Option.some (Jvm.ClassFile.FieldType.object "java/lang/String"))) ∈ lw_all := lw_g (lw_at lw_m5 209 rfl) rfl
theorem q1295 : (Jvm.Cond.classLink "AskedNames" (23 : Nat) "java/lang/StringBuilder") ∈ lw_all := lw_g (lw_at lw_m5 210 rfl) rfl
theorem q1296 : (Jvm.Cond.methodLink "AskedNames" (25 : Nat) ({ cls := "java/lang/StringBuilder", name := "<init>", desc := "(I)V" } : Jvm.MethodName)) ∈ lw_all := lw_g (lw_at lw_m5 211 rfl) rfl
theorem q1297 : (Jvm.Cond.methodLink "AskedNames" (29 : Nat) ({ cls := "java/lang/StringBuilder", name := "append", desc := "(C)Ljava/lang/StringBuilder;" } : Jvm.MethodName)) ∈ lw_all := lw_g (lw_at lw_m5 212 rfl) rfl
theorem q1298 : (Jvm.Cond.methodLink "AskedNames" (33 : Nat) ({ cls := "java/lang/StringBuilder", name := "toString", desc := "()Ljava/lang/String;" } : Jvm.MethodName)) ∈ lw_all := lw_g (lw_at lw_m5 213 rfl) rfl
theorem q1299 : (Jvm.Cond.methodLink "AskedNames" (208 : Nat) ({ cls := "AskedNames$Net", name := "longest", desc := "(ILjava/lang/String;)I" } : Jvm.MethodName)) ∈ lw_all := lw_g (lw_at lw_m5 214 rfl) rfl
theorem q1304 : (Jvm.Cond.classLink "AskedNames" (212 : Nat) "AskedNames$Going") ∈ lw_all := lw_g (lw_at lw_m5 219 rfl) rfl
theorem q1306 : (Jvm.Cond.methodLink "AskedNames" (214 : Nat) ({ cls := "AskedNames$Going", name := "<init>", desc := "(LAskedNames$Net;)V" } : Jvm.MethodName)) ∈ lw_all := lw_g (lw_at lw_m5 221 rfl) rfl
theorem q1327 : (Jvm.Cond.fieldLinkNest "AskedNames" (297 : Nat) "AskedNames$Node" "store" "Ljava/util/ArrayList;" "AskedNames") ∈ lw_tbl := lw_at lw_m6 2 rfl
theorem q1330 : (Jvm.Cond.fieldLinkNest "AskedNames" (309 : Nat) "AskedNames$Node" "entries" "Ljava/util/ArrayList;" "AskedNames") ∈ lw_tbl := lw_at lw_m6 5 rfl
theorem q1347 : (Jvm.Cond.fieldLinkNest "AskedNames" (289 : Nat) "AskedNames$Going" "net" "LAskedNames$Net;" "AskedNames") ∈ lw_tbl := lw_at lw_m6 22 rfl
theorem q1349 : (Jvm.Cond.fieldLinkNest "AskedNames" (293 : Nat) "AskedNames$Going" "nodes" "Ljava/util/ArrayList;" "AskedNames") ∈ lw_tbl := lw_at lw_m6 24 rfl
theorem q1355 : (Jvm.Cond.fieldLinkNest "AskedNames" (336 : Nat) "AskedNames$Going" "ends" "[[I" "AskedNames") ∈ lw_tbl := lw_at lw_m6 30 rfl
theorem q1358 : (Jvm.Cond.fieldLinkNest "AskedNames" (345 : Nat) "AskedNames$Going" "minute" "I" "AskedNames") ∈ lw_tbl := lw_at lw_m6 33 rfl
theorem q1361 : (Jvm.Cond.fieldLinkNest "AskedNames" (350 : Nat) "AskedNames$Going" "sent" "I" "AskedNames") ∈ lw_tbl := lw_at lw_m6 36 rfl
theorem q1397 : (Jvm.Cond.methodLink "AskedNames" (217 : Nat) ({ cls := "AskedNames$Going", name := "ways", desc := "(ILjava/lang/String;I)I" } : Jvm.MethodName)) ∈ lw_all := lw_g (lw_at lw_m6 72 rfl) rfl
theorem q1413 : (Jvm.Cond.static ({ cls := "AskedNames", name := "has", desc := "(II)Z" } : Jvm.MethodName)) ∈ lw_all := lw_g (lw_at lw_m6 88 rfl) rfl
theorem q1414 : (Jvm.Cond.code ({ cls := "AskedNames", name := "has", desc := "(II)Z" } : Jvm.MethodName) prog_1_method_2_code (2 : Nat) (Option.some Jvm.ClassFile.FieldType.boolean)) ∈ lw_all := lw_g (lw_at lw_m6 89 rfl) rfl
theorem q1416 : (Jvm.Cond.instanceMethod ({ cls := "AskedNames", name := "trail", desc := "(IIII)I" } : Jvm.MethodName)) ∈ lw_all := lw_g (lw_at lw_m6 91 rfl) rfl
theorem q1417 : (Jvm.Cond.selects "AskedNames" ({ cls := "AskedNames", name := "trail", desc := "(IIII)I" } : Jvm.MethodName) ({ cls := "AskedNames", name := "trail", desc := "(IIII)I" } : Jvm.MethodName)) ∈ lw_all := lw_g (lw_at lw_m6 92 rfl) rfl
theorem q1418 : (Jvm.Cond.code ({ cls := "AskedNames", name := "trail", desc := "(IIII)I" } : Jvm.MethodName) prog_1_method_21_code (7 : Nat) (Option.some Jvm.ClassFile.FieldType.int)) ∈ lw_all := lw_g (lw_at lw_m6 93 rfl) rfl
theorem q1419 : (Jvm.Cond.methodLink "AskedNames" (221 : Nat) ({ cls := "AskedNames$Going", name := "trail", desc := "(ILjava/lang/String;)[I" } : Jvm.MethodName)) ∈ lw_all := lw_g (lw_at lw_m6 94 rfl) rfl
theorem q1447 : (Jvm.Cond.instanceMethod ({ cls := "AskedNames", name := "far", desc := "(III)I" } : Jvm.MethodName)) ∈ lw_all := lw_g (lw_at lw_m6 122 rfl) rfl
theorem q1448 : (Jvm.Cond.selects "AskedNames" ({ cls := "AskedNames", name := "far", desc := "(III)I" } : Jvm.MethodName) ({ cls := "AskedNames", name := "far", desc := "(III)I" } : Jvm.MethodName)) ∈ lw_all := lw_g (lw_at lw_m6 123 rfl) rfl
theorem q1449 : (Jvm.Cond.code ({ cls := "AskedNames", name := "far", desc := "(III)I" } : Jvm.MethodName) prog_1_method_22_code (4 : Nat) (Option.some Jvm.ClassFile.FieldType.int)) ∈ lw_all := lw_g (lw_at lw_m6 124 rfl) rfl
theorem q1450 : (Jvm.Cond.methodLink "AskedNames" (225 : Nat) ({ cls := "AskedNames$Net", name := "far", desc := "(II)I" } : Jvm.MethodName)) ∈ lw_all := lw_g (lw_at lw_m6 125 rfl) rfl
theorem q1462 : (Jvm.Cond.instanceMethod ({ cls := "AskedNames", name := "edges", desc := "(II)I" } : Jvm.MethodName)) ∈ lw_all := lw_g (lw_at lw_m6 137 rfl) rfl
theorem q1463 : (Jvm.Cond.selects "AskedNames" ({ cls := "AskedNames", name := "edges", desc := "(II)I" } : Jvm.MethodName) ({ cls := "AskedNames", name := "edges", desc := "(II)I" } : Jvm.MethodName)) ∈ lw_all := lw_g (lw_at lw_m6 138 rfl) rfl
theorem q1464 : (Jvm.Cond.code ({ cls := "AskedNames", name := "edges", desc := "(II)I" } : Jvm.MethodName) prog_1_method_23_code (4 : Nat) (Option.some Jvm.ClassFile.FieldType.int)) ∈ lw_all := lw_g (lw_at lw_m6 139 rfl) rfl
theorem q1465 : (Jvm.Cond.methodLink "AskedNames" (228 : Nat) ({ cls := "AskedNames$Net", name := "edges", desc := "()I" } : Jvm.MethodName)) ∈ lw_all := lw_g (lw_at lw_m6 140 rfl) rfl
theorem q1469 : (Jvm.Cond.methodLink "AskedNames" (231 : Nat) ({ cls := "AskedNames$Net", name := "leaves", desc := "()I" } : Jvm.MethodName)) ∈ lw_all := lw_g (lw_at lw_m6 144 rfl) rfl
theorem q1473 : (Jvm.Cond.methodLink "AskedNames" (234 : Nat) ({ cls := "AskedNames$Net", name := "blind", desc := "()I" } : Jvm.MethodName)) ∈ lw_all := lw_g (lw_at lw_m6 148 rfl) rfl
theorem q1477 : (Jvm.Cond.methodLink "AskedNames" (237 : Nat) ({ cls := "AskedNames$Net", name := "hidden", desc := "()I" } : Jvm.MethodName)) ∈ lw_all := lw_g (lw_at lw_m6 152 rfl) rfl
theorem q1486 : (Jvm.Cond.methodLink "AskedNames" (240 : Nat) ({ cls := "AskedNames$Net", name := "served", desc := "()I" } : Jvm.MethodName)) ∈ lw_all := lw_g (lw_at lw_m6 161 rfl) rfl
theorem q1491 : (Jvm.Cond.instanceMethod ({ cls := "AskedNames", name := "deed", desc := "(III)I" } : Jvm.MethodName)) ∈ lw_all := lw_g (lw_at lw_m6 166 rfl) rfl
theorem q1492 : (Jvm.Cond.selects "AskedNames" ({ cls := "AskedNames", name := "deed", desc := "(III)I" } : Jvm.MethodName) ({ cls := "AskedNames", name := "deed", desc := "(III)I" } : Jvm.MethodName)) ∈ lw_all := lw_g (lw_at lw_m6 167 rfl) rfl
theorem q1493 : (Jvm.Cond.code ({ cls := "AskedNames", name := "deed", desc := "(III)I" } : Jvm.MethodName) prog_1_method_24_code (6 : Nat) (Option.some Jvm.ClassFile.FieldType.int)) ∈ lw_all := lw_g (lw_at lw_m6 168 rfl) rfl
theorem q1494 : (Jvm.Cond.classLink "AskedNames" (65 : Nat) "java/util/ArrayList") ∈ lw_all := lw_g (lw_at lw_m6 169 rfl) rfl
theorem q1495 : (Jvm.Cond.classLink "AskedNames" (243 : Nat) "AskedNames$Deed") ∈ lw_all := lw_g (lw_at lw_m6 170 rfl) rfl
theorem q1496 : (Jvm.Cond.methodLink "AskedNames" (249 : Nat) ({ cls := "AskedNames$Doing", name := "ordinal", desc := "()I" } : Jvm.MethodName)) ∈ lw_all := lw_g (lw_at lw_m6 171 rfl) rfl
theorem q1502 : (Jvm.Cond.methodLink "AskedNames" (257 : Nat) ({ cls := "AskedNames$Deed", name := "isAsk", desc := "()Z" } : Jvm.MethodName)) ∈ lw_all := lw_g (lw_at lw_m6 177 rfl) rfl
theorem q1509 : (Jvm.Cond.instanceMethod ({ cls := "AskedNames", name := "stop", desc := "(II)I" } : Jvm.MethodName)) ∈ lw_all := lw_g (lw_at lw_m6 184 rfl) rfl
theorem q1510 : (Jvm.Cond.selects "AskedNames" ({ cls := "AskedNames", name := "stop", desc := "(II)I" } : Jvm.MethodName) ({ cls := "AskedNames", name := "stop", desc := "(II)I" } : Jvm.MethodName)) ∈ lw_all := lw_g (lw_at lw_m6 185 rfl) rfl
theorem q1511 : (Jvm.Cond.code ({ cls := "AskedNames", name := "stop", desc := "(II)I" } : Jvm.MethodName) prog_1_method_26_code (3 : Nat) (Option.some Jvm.ClassFile.FieldType.int)) ∈ lw_all := lw_g (lw_at lw_m6 186 rfl) rfl
theorem q1512 : (Jvm.Cond.methodLink "AskedNames" (272 : Nat) ({ cls := "AskedNames", name := "runOf", desc := "(III)LAskedNames$Run;" } : Jvm.MethodName)) ∈ lw_all := lw_g (lw_at lw_m6 187 rfl) rfl
theorem q1513 : (Jvm.Cond.privateMethod ({ cls := "AskedNames", name := "runOf", desc := "(III)LAskedNames$Run;" } : Jvm.MethodName)) ∈ lw_tbl := lw_at lw_m6 188 rfl
theorem q1514 : (Jvm.Cond.instanceMethod ({ cls := "AskedNames", name := "runOf", desc := "(III)LAskedNames$Run;" } : Jvm.MethodName)) ∈ lw_all := lw_g (lw_at lw_m6 189 rfl) rfl
theorem q1515 : (Jvm.Cond.code ({ cls := "AskedNames", name := "runOf", desc := "(III)LAskedNames$Run;" } : Jvm.MethodName) prog_1_method_25_code (4 : Nat) (Option.some (Jvm.ClassFile.FieldType.object "AskedNames$Run"))) ∈ lw_all := lw_g (lw_at lw_m6 190 rfl) rfl
theorem q1516 : (Jvm.Cond.classLink "AskedNames" (265 : Nat) "AskedNames$Run") ∈ lw_all := lw_g (lw_at lw_m6 191 rfl) rfl
theorem q1518 : (Jvm.Cond.methodLink "AskedNames" (267 : Nat) ({ cls := "AskedNames$Run", name := "<init>", desc := "(LAskedNames$Net;)V" } : Jvm.MethodName)) ∈ lw_all := lw_g (lw_at lw_m6 193 rfl) rfl
theorem q1527 : (Jvm.Cond.fieldLinkNest "AskedNames" (279 : Nat) "AskedNames$Run" "going" "LAskedNames$Going;" "AskedNames") ∈ lw_tbl := lw_at lw_m6 202 rfl
theorem q1530 : (Jvm.Cond.fieldLinkNest "AskedNames" (276 : Nat) "AskedNames$Run" "done" "I" "AskedNames") ∈ lw_tbl := lw_at lw_m6 205 rfl
theorem q1545 : (Jvm.Cond.methodLink "AskedNames" (268 : Nat) ({ cls := "AskedNames$Run", name := "goes", desc := "(Ljava/util/ArrayList;I)LAskedNames$Run;" } : Jvm.MethodName)) ∈ lw_all := lw_g (lw_at lw_m6 220 rfl) rfl
theorem q1695 : (Jvm.Cond.fieldLinkNest "AskedNames" (302 : Nat) "AskedNames$Data" "name" "Ljava/lang/String;" "AskedNames") ∈ lw_tbl := lw_at lw_m7 130 rfl
theorem q1699 : (Jvm.Cond.fieldLinkNest "AskedNames" (303 : Nat) "AskedNames$Data" "until" "I" "AskedNames") ∈ lw_tbl := lw_at lw_m7 134 rfl
theorem q1701 : (Jvm.Cond.fieldLinkNest "AskedNames" (306 : Nat) "AskedNames$Data" "by" "I" "AskedNames") ∈ lw_tbl := lw_at lw_m7 136 rfl
theorem q1744 : (Jvm.Cond.fieldLinkNest "AskedNames" (314 : Nat) "AskedNames$Entry" "name" "Ljava/lang/String;" "AskedNames") ∈ lw_tbl := lw_at lw_m7 179 rfl
theorem q1747 : (Jvm.Cond.fieldLinkNest "AskedNames" (315 : Nat) "AskedNames$Entry" "wish" "I" "AskedNames") ∈ lw_tbl := lw_at lw_m7 182 rfl
theorem q1750 : (Jvm.Cond.fieldLinkNest "AskedNames" (333 : Nat) "AskedNames$Entry" "ends" "I" "AskedNames") ∈ lw_tbl := lw_at lw_m7 185 rfl
theorem q1755 : (Jvm.Cond.fieldLinkNest "AskedNames" (321 : Nat) "AskedNames$Entry" "asks" "Ljava/util/ArrayList;" "AskedNames") ∈ lw_tbl := lw_at lw_m7 190 rfl
theorem q1760 : (Jvm.Cond.fieldLinkNest "AskedNames" (318 : Nat) "AskedNames$Entry" "in" "I" "AskedNames") ∈ lw_tbl := lw_at lw_m7 195 rfl
theorem q1763 : (Jvm.Cond.fieldLinkNest "AskedNames" (324 : Nat) "AskedNames$Entry" "out" "I" "AskedNames") ∈ lw_tbl := lw_at lw_m7 198 rfl
theorem q1765 : (Jvm.Cond.fieldLinkNest "AskedNames" (327 : Nat) "AskedNames$Entry" "tried" "I" "AskedNames") ∈ lw_tbl := lw_at lw_m7 200 rfl
theorem q1767 : (Jvm.Cond.fieldLinkNest "AskedNames" (330 : Nat) "AskedNames$Entry" "sent" "I" "AskedNames") ∈ lw_tbl := lw_at lw_m7 202 rfl
theorem q1917 : (Jvm.Cond.instanceMethod ({ cls := "AskedNames", name := "state", desc := "(IIII)I" } : Jvm.MethodName)) ∈ lw_all := lw_g (lw_at lw_m8 112 rfl) rfl
theorem q1918 : (Jvm.Cond.selects "AskedNames" ({ cls := "AskedNames", name := "state", desc := "(IIII)I" } : Jvm.MethodName) ({ cls := "AskedNames", name := "state", desc := "(IIII)I" } : Jvm.MethodName)) ∈ lw_all := lw_g (lw_at lw_m8 113 rfl) rfl
theorem q1919 : (Jvm.Cond.code ({ cls := "AskedNames", name := "state", desc := "(IIII)I" } : Jvm.MethodName) prog_1_method_28_code (6 : Nat) (Option.some Jvm.ClassFile.FieldType.int)) ∈ lw_all := lw_g (lw_at lw_m8 114 rfl) rfl
theorem q1920 : (Jvm.Cond.methodLink "AskedNames" (283 : Nat) ({ cls := "AskedNames", name := "goingOf", desc := "(III)LAskedNames$Going;" } : Jvm.MethodName)) ∈ lw_all := lw_g (lw_at lw_m8 115 rfl) rfl
theorem q1921 : (Jvm.Cond.privateMethod ({ cls := "AskedNames", name := "goingOf", desc := "(III)LAskedNames$Going;" } : Jvm.MethodName)) ∈ lw_tbl := lw_at lw_m8 116 rfl
theorem q1922 : (Jvm.Cond.instanceMethod ({ cls := "AskedNames", name := "goingOf", desc := "(III)LAskedNames$Going;" } : Jvm.MethodName)) ∈ lw_all := lw_g (lw_at lw_m8 117 rfl) rfl
theorem q1923 : (Jvm.Cond.code ({ cls := "AskedNames", name := "goingOf", desc := "(III)LAskedNames$Going;" } : Jvm.MethodName) prog_1_method_27_code (5 : Nat) (Option.some (Jvm.ClassFile.FieldType.object "AskedNames$Going"))) ∈ lw_all := lw_g (lw_at lw_m8 118 rfl) rfl
theorem q1924 : (Jvm.Cond.methodLink "AskedNames" (287 : Nat) ({ cls := "AskedNames$Going", name := "told", desc := "(I)I" } : Jvm.MethodName)) ∈ lw_all := lw_g (lw_at lw_m8 119 rfl) rfl
theorem q1942 : (Jvm.Cond.instanceMethod ({ cls := "AskedNames", name := "stored", desc := "(IIIIII)I" } : Jvm.MethodName)) ∈ lw_all := lw_g (lw_at lw_m8 137 rfl) rfl
theorem q1943 : (Jvm.Cond.selects "AskedNames" ({ cls := "AskedNames", name := "stored", desc := "(IIIIII)I" } : Jvm.MethodName) ({ cls := "AskedNames", name := "stored", desc := "(IIIIII)I" } : Jvm.MethodName)) ∈ lw_all := lw_g (lw_at lw_m8 138 rfl) rfl
theorem q1944 : (Jvm.Cond.code ({ cls := "AskedNames", name := "stored", desc := "(IIIIII)I" } : Jvm.MethodName) prog_1_method_29_code (9 : Nat) (Option.some Jvm.ClassFile.FieldType.int)) ∈ lw_all := lw_g (lw_at lw_m8 139 rfl) rfl
theorem q1945 : (Jvm.Cond.classLink "AskedNames" (295 : Nat) "AskedNames$Node") ∈ lw_all := lw_g (lw_at lw_m8 140 rfl) rfl
theorem q1946 : (Jvm.Cond.classLink "AskedNames" (300 : Nat) "AskedNames$Data") ∈ lw_all := lw_g (lw_at lw_m8 141 rfl) rfl
theorem q1948 : (Jvm.Cond.instanceMethod ({ cls := "AskedNames", name := "entry", desc := "(IIIIII)I" } : Jvm.MethodName)) ∈ lw_all := lw_g (lw_at lw_m8 143 rfl) rfl
theorem q1949 : (Jvm.Cond.selects "AskedNames" ({ cls := "AskedNames", name := "entry", desc := "(IIIIII)I" } : Jvm.MethodName) ({ cls := "AskedNames", name := "entry", desc := "(IIIIII)I" } : Jvm.MethodName)) ∈ lw_all := lw_g (lw_at lw_m8 144 rfl) rfl
theorem q1950 : (Jvm.Cond.code ({ cls := "AskedNames", name := "entry", desc := "(IIIIII)I" } : Jvm.MethodName) prog_1_method_30_code (10 : Nat) (Option.some Jvm.ClassFile.FieldType.int)) ∈ lw_all := lw_g (lw_at lw_m8 145 rfl) rfl
theorem q1951 : (Jvm.Cond.classLink "AskedNames" (312 : Nat) "AskedNames$Entry") ∈ lw_all := lw_g (lw_at lw_m8 146 rfl) rfl
theorem q1953 : (Jvm.Cond.instanceMethod ({ cls := "AskedNames", name := "why", desc := "(IIII)I" } : Jvm.MethodName)) ∈ lw_all := lw_g (lw_at lw_m8 148 rfl) rfl
theorem q1954 : (Jvm.Cond.selects "AskedNames" ({ cls := "AskedNames", name := "why", desc := "(IIII)I" } : Jvm.MethodName) ({ cls := "AskedNames", name := "why", desc := "(IIII)I" } : Jvm.MethodName)) ∈ lw_all := lw_g (lw_at lw_m8 149 rfl) rfl
theorem q1955 : (Jvm.Cond.code ({ cls := "AskedNames", name := "why", desc := "(IIII)I" } : Jvm.MethodName) prog_1_method_31_code (7 : Nat) (Option.some Jvm.ClassFile.FieldType.int)) ∈ lw_all := lw_g (lw_at lw_m8 150 rfl) rfl
theorem q1957 : (Jvm.Cond.instanceMethod ({ cls := "AskedNames", name := "after", desc := "(III)I" } : Jvm.MethodName)) ∈ lw_all := lw_g (lw_at lw_m8 152 rfl) rfl
theorem q1958 : (Jvm.Cond.selects "AskedNames" ({ cls := "AskedNames", name := "after", desc := "(III)I" } : Jvm.MethodName) ({ cls := "AskedNames", name := "after", desc := "(III)I" } : Jvm.MethodName)) ∈ lw_all := lw_g (lw_at lw_m8 153 rfl) rfl
theorem q1959 : (Jvm.Cond.code ({ cls := "AskedNames", name := "after", desc := "(III)I" } : Jvm.MethodName) prog_1_method_32_code (4 : Nat) (Option.some Jvm.ClassFile.FieldType.int)) ∈ lw_all := lw_g (lw_at lw_m8 154 rfl) rfl
theorem q1960 : (Jvm.Cond.methodLink "AskedNames" (339 : Nat) ({ cls := "AskedNames$Run", name := "after", desc := "(I)I" } : Jvm.MethodName)) ∈ lw_all := lw_g (lw_at lw_m8 155 rfl) rfl
theorem q1969 : (Jvm.Cond.static ({ cls := "AskedNames", name := "common", desc := "(II)I" } : Jvm.MethodName)) ∈ lw_all := lw_g (lw_at lw_m8 164 rfl) rfl
theorem q1970 : (Jvm.Cond.code ({ cls := "AskedNames", name := "common", desc := "(II)I" } : Jvm.MethodName) prog_1_method_4_code (2 : Nat) (Option.some Jvm.ClassFile.FieldType.int)) ∈ lw_all := lw_g (lw_at lw_m8 165 rfl) rfl
theorem q1971 : (Jvm.Cond.methodLink "AskedNames" (7 : Nat) ({ cls := "AskedNames", name := "common", desc := "(II)I" } : Jvm.MethodName)) ∈ lw_all := lw_g (lw_at lw_m8 166 rfl) rfl
theorem q1973 : (Jvm.Cond.instanceMethod ({ cls := "AskedNames", name := "alone", desc := "(IIIII)I" } : Jvm.MethodName)) ∈ lw_all := lw_g (lw_at lw_m8 168 rfl) rfl
theorem q1974 : (Jvm.Cond.selects "AskedNames" ({ cls := "AskedNames", name := "alone", desc := "(IIIII)I" } : Jvm.MethodName) ({ cls := "AskedNames", name := "alone", desc := "(IIIII)I" } : Jvm.MethodName)) ∈ lw_all := lw_g (lw_at lw_m8 169 rfl) rfl
theorem q1975 : (Jvm.Cond.code ({ cls := "AskedNames", name := "alone", desc := "(IIIII)I" } : Jvm.MethodName) prog_1_method_33_code (8 : Nat) (Option.some Jvm.ClassFile.FieldType.int)) ∈ lw_all := lw_g (lw_at lw_m8 170 rfl) rfl
theorem q1976 : (Jvm.Cond.methodLink "AskedNames" (342 : Nat) ({ cls := "AskedNames$Going", name := "asks", desc := "(IILjava/lang/String;II)V" } : Jvm.MethodName)) ∈ lw_all := lw_g (lw_at lw_m8 171 rfl) rfl
theorem q1977 : (Jvm.Cond.methodLink "AskedNames" (348 : Nat) ({ cls := "AskedNames$Going", name := "minute", desc := "()V" } : Jvm.MethodName)) ∈ lw_all := lw_g (lw_at lw_m8 172 rfl) rfl
theorem q1979 : (Jvm.Cond.instanceMethod ({ cls := "AskedNames", name := "fact", desc := "(III)I" } : Jvm.MethodName)) ∈ lw_all := lw_g (lw_at lw_m8 174 rfl) rfl
theorem q1980 : (Jvm.Cond.selects "AskedNames" ({ cls := "AskedNames", name := "fact", desc := "(III)I" } : Jvm.MethodName) ({ cls := "AskedNames", name := "fact", desc := "(III)I" } : Jvm.MethodName)) ∈ lw_all := lw_g (lw_at lw_m8 175 rfl) rfl
theorem q1981 : (Jvm.Cond.code ({ cls := "AskedNames", name := "fact", desc := "(III)I" } : Jvm.MethodName) prog_1_method_34_code (5 : Nat) (Option.some Jvm.ClassFile.FieldType.int)) ∈ lw_all := lw_g (lw_at lw_m8 176 rfl) rfl
theorem q1982 : (Jvm.Cond.classLink "AskedNames" (351 : Nat) "[I") ∈ lw_all := lw_g (lw_at lw_m8 177 rfl) rfl
theorem q1984 : (Jvm.Cond.instanceMethod ({ cls := "AskedNames", name := "fits", desc := "(IIII)I" } : Jvm.MethodName)) ∈ lw_all := lw_g (lw_at lw_m8 179 rfl) rfl
theorem q1985 : (Jvm.Cond.selects "AskedNames" ({ cls := "AskedNames", name := "fits", desc := "(IIII)I" } : Jvm.MethodName) ({ cls := "AskedNames", name := "fits", desc := "(IIII)I" } : Jvm.MethodName)) ∈ lw_all := lw_g (lw_at lw_m8 180 rfl) rfl
theorem q1986 : (Jvm.Cond.code ({ cls := "AskedNames", name := "fits", desc := "(IIII)I" } : Jvm.MethodName) prog_1_method_35_code (6 : Nat) (Option.some Jvm.ClassFile.FieldType.int)) ∈ lw_all := lw_g (lw_at lw_m8 181 rfl) rfl
theorem q1987 : (Jvm.Cond.classLink "AskedNames" (352 : Nat) "AskedNames$Fits") ∈ lw_all := lw_g (lw_at lw_m8 182 rfl) rfl
theorem q1989 : (Jvm.Cond.methodLink "AskedNames" (354 : Nat) ({ cls := "AskedNames$Fits", name := "<init>", desc := "(LAskedNames$Net;Ljava/util/ArrayList;Ljava/util/ArrayList;)V" } : Jvm.MethodName)) ∈ lw_all := lw_g (lw_at lw_m8 184 rfl) rfl
theorem q2015 : (Jvm.Cond.fieldLinkNest "AskedNames" (357 : Nat) "AskedNames$Fits" "links" "Ljava/util/ArrayList;" "AskedNames") ∈ lw_tbl := lw_at lw_m8 210 rfl
theorem q2025 : (Jvm.Cond.methodLink "AskedNames" (358 : Nat) ({ cls := "AskedNames$Fits", name := "ask", desc := "()I" } : Jvm.MethodName)) ∈ lw_all := lw_g (lw_at lw_m8 220 rfl) rfl
theorem q2034 : (Jvm.Cond.classLink "AskedNames" (2 : Nat) "java/lang/Integer") ∈ lw_all := lw_g (lw_at lw_m8 229 rfl) rfl
theorem q2035 : (Jvm.Cond.methodLink "AskedNames" (361 : Nat) ({ cls := "java/lang/Integer", name := "intValue", desc := "()I" } : Jvm.MethodName)) ∈ lw_all := lw_g (lw_at lw_m8 230 rfl) rfl
theorem q2037 : (Jvm.Cond.instanceMethod ({ cls := "AskedNames", name := "drawn", desc := "(IIII)I" } : Jvm.MethodName)) ∈ lw_all := lw_g (lw_at lw_m8 232 rfl) rfl
theorem q2038 : (Jvm.Cond.selects "AskedNames" ({ cls := "AskedNames", name := "drawn", desc := "(IIII)I" } : Jvm.MethodName) ({ cls := "AskedNames", name := "drawn", desc := "(IIII)I" } : Jvm.MethodName)) ∈ lw_all := lw_g (lw_at lw_m8 233 rfl) rfl
theorem q2039 : (Jvm.Cond.code ({ cls := "AskedNames", name := "drawn", desc := "(IIII)I" } : Jvm.MethodName) prog_1_method_36_code (5 : Nat) (Option.some Jvm.ClassFile.FieldType.int)) ∈ lw_all := lw_g (lw_at lw_m8 234 rfl) rfl
theorem q2040 : (Jvm.Cond.classLink "AskedNames" (364 : Nat) "AskedNames$Drawn") ∈ lw_all := lw_g (lw_at lw_m8 235 rfl) rfl
theorem q2042 : (Jvm.Cond.methodLink "AskedNames" (366 : Nat) ({ cls := "AskedNames$Drawn", name := "<init>", desc := "(LAskedNames$Net;II)V" } : Jvm.MethodName)) ∈ lw_all := lw_g (lw_at lw_m8 237 rfl) rfl
theorem q2122 : (Jvm.Cond.fieldLinkNest "AskedNames" (369 : Nat) "AskedNames$Drawn" "run" "LAskedNames$Run;" "AskedNames") ∈ lw_tbl := lw_at lw_m9 77 rfl
theorem q2130 : (Jvm.Cond.instanceMethod ({ cls := "AskedNames", name := "count", desc := "(I)I" } : Jvm.MethodName)) ∈ lw_all := lw_g (lw_at lw_m9 85 rfl) rfl
theorem q2131 : (Jvm.Cond.selects "AskedNames" ({ cls := "AskedNames", name := "count", desc := "(I)I" } : Jvm.MethodName) ({ cls := "AskedNames", name := "count", desc := "(I)I" } : Jvm.MethodName)) ∈ lw_all := lw_g (lw_at lw_m9 86 rfl) rfl
theorem q2132 : (Jvm.Cond.code ({ cls := "AskedNames", name := "count", desc := "(I)I" } : Jvm.MethodName) prog_1_method_37_code (2 : Nat) (Option.some Jvm.ClassFile.FieldType.int)) ∈ lw_all := lw_g (lw_at lw_m9 87 rfl) rfl
theorem q2134 : (Jvm.Cond.instanceMethod ({ cls := "AskedNames", name := "image", desc := "(I)Z" } : Jvm.MethodName)) ∈ lw_all := lw_g (lw_at lw_m9 89 rfl) rfl
theorem q2135 : (Jvm.Cond.selects "AskedNames" ({ cls := "AskedNames", name := "image", desc := "(I)Z" } : Jvm.MethodName) ({ cls := "AskedNames", name := "image", desc := "(I)Z" } : Jvm.MethodName)) ∈ lw_all := lw_g (lw_at lw_m9 90 rfl) rfl
theorem q2136 : (Jvm.Cond.code ({ cls := "AskedNames", name := "image", desc := "(I)Z" } : Jvm.MethodName) prog_1_method_38_code (2 : Nat) (Option.some Jvm.ClassFile.FieldType.boolean)) ∈ lw_all := lw_g (lw_at lw_m9 91 rfl) rfl
theorem q2137 : (Jvm.Cond.methodLink "AskedNames" (373 : Nat) ({ cls := "AskedNames$State", name := "be", desc := "(LAskedNames$State;)V" } : Jvm.MethodName)) ∈ lw_all := lw_g (lw_at lw_m9 92 rfl) rfl
theorem q2161 : (Jvm.Cond.instanceMethod ({ cls := "AskedNames", name := "again", desc := "(I)Z" } : Jvm.MethodName)) ∈ lw_all := lw_g (lw_at lw_m9 116 rfl) rfl
theorem q2162 : (Jvm.Cond.selects "AskedNames" ({ cls := "AskedNames", name := "again", desc := "(I)Z" } : Jvm.MethodName) ({ cls := "AskedNames", name := "again", desc := "(I)Z" } : Jvm.MethodName)) ∈ lw_all := lw_g (lw_at lw_m9 117 rfl) rfl
theorem q2163 : (Jvm.Cond.code ({ cls := "AskedNames", name := "again", desc := "(I)Z" } : Jvm.MethodName) prog_1_method_39_code (2 : Nat) (Option.some Jvm.ClassFile.FieldType.boolean)) ∈ lw_all := lw_g (lw_at lw_m9 118 rfl) rfl
theorem q2976 : (Jvm.Cond.castable "AskedNames" "java/lang/Object") ∈ lw_tbl := lw_at lw_m12 211 rfl
theorem in_X0 : ∀ w ∈ wsX00, w ∈ lw_all := lw_in wsX00 [252, 254] (by decide +kernel) (by decide +kernel)

/-! AskedNames$Reader -/
set_option maxRecDepth 100000
def RX3 : String := "AskedNames$Reader"
abbrev cX3_init : ByteArray := prog_17_method_1_code
def yX3_init : MethodName := ⟨RX3, "<init>", "([BI)V"⟩
def dkwX3_init_0 : List UInt8 := [42, 183, 0, 3, 42, 43, 181, 0, 9, 42, 28, 181, 0, 15, 42, 182, 0, 19, 177]
abbrev dktX3_init_0 : List UInt8 := dkwX3_init_0 ++ []
theorem dksX3_init_0 : cX3_init.data.toList.drop 0 = dktX3_init_0 := by decide +kernel
theorem dX3_init_0 : decode cX3_init 0 = .ok (.aload_n 0, 1) := dk_42 (dk_at dksX3_init_0 0 rfl rfl)
theorem dX3_init_1 : decode cX3_init 1 = .ok (.invokespecial 3, 3) := dk_183 0 3 (dk_at dksX3_init_0 1 rfl rfl)
theorem dX3_init_4 : decode cX3_init 4 = .ok (.aload_n 0, 1) := dk_42 (dk_at dksX3_init_0 4 rfl rfl)
theorem dX3_init_5 : decode cX3_init 5 = .ok (.aload_n 1, 1) := dk_43 (dk_at dksX3_init_0 5 rfl rfl)
theorem dX3_init_6 : decode cX3_init 6 = .ok (.putfield 9, 3) := dk_181 0 9 (dk_at dksX3_init_0 6 rfl rfl)
theorem dX3_init_9 : decode cX3_init 9 = .ok (.aload_n 0, 1) := dk_42 (dk_at dksX3_init_0 9 rfl rfl)
theorem dX3_init_10 : decode cX3_init 10 = .ok (.iload_n 2, 1) := dk_28 (dk_at dksX3_init_0 10 rfl rfl)
theorem dX3_init_11 : decode cX3_init 11 = .ok (.putfield 15, 3) := dk_181 0 15 (dk_at dksX3_init_0 11 rfl rfl)
theorem dX3_init_14 : decode cX3_init 14 = .ok (.aload_n 0, 1) := dk_42 (dk_at dksX3_init_0 14 rfl rfl)
theorem dX3_init_15 : decode cX3_init 15 = .ok (.invokevirtual 19, 3) := dk_182 0 19 (dk_at dksX3_init_0 15 rfl rfl)
theorem dX3_init_18 : decode cX3_init 18 = .ok (.return_, 1) := dk_177 (dk_at dksX3_init_0 18 rfl rfl)
abbrev cX3_step : ByteArray := prog_17_method_5_code
def yX3_step : MethodName := ⟨RX3, "step", "()V"⟩
def dkwX3_step_12 : List UInt8 := [167, 0, 6, 178, 0, 75, 181, 0, 38, 177]
abbrev dktX3_step_12 : List UInt8 := dkwX3_step_12 ++ []
def dkwX3_step_11 : List UInt8 := [167, 0, 32, 42, 89, 180, 0, 22, 4, 96, 181, 0, 22, 42, 27, 16, 59, 160, 0, 9, 178, 0, 81]
abbrev dktX3_step_11 : List UInt8 := dkwX3_step_11 ++ dktX3_step_12
def dkwX3_step_10 : List UInt8 := [180, 0, 22, 42, 180, 0, 29, 100, 5, 164, 0, 9, 178, 0, 75, 167, 0, 6, 178, 0, 78, 181, 0, 38]
abbrev dktX3_step_10 : List UInt8 := dkwX3_step_10 ++ dktX3_step_11
def dkwX3_step_9 : List UInt8 := [96, 16, 48, 100, 181, 0, 72, 42, 89, 180, 0, 22, 4, 96, 181, 0, 22, 167, 255, 196, 42, 42]
abbrev dktX3_step_9 : List UInt8 := dkwX3_step_9 ++ dktX3_step_10
def dkwX3_step_8 : List UInt8 := [180, 0, 29, 100, 5, 162, 0, 26, 42, 16, 10, 42, 180, 0, 72, 104, 42, 42, 180, 0, 22, 182, 0, 25]
abbrev dktX3_step_8 : List UInt8 := dkwX3_step_8 ++ dktX3_step_9
def dkwX3_step_7 : List UInt8 := [3, 181, 0, 72, 42, 42, 180, 0, 22, 182, 0, 25, 184, 0, 69, 153, 0, 52, 42, 180, 0, 22, 42]
abbrev dktX3_step_7 : List UInt8 := dkwX3_step_7 ++ dktX3_step_8
def dkwX3_step_6 : List UInt8 := [182, 0, 58, 181, 0, 62, 42, 178, 0, 66, 181, 0, 38, 167, 0, 136, 27, 184, 0, 69, 153, 0, 100, 42]
abbrev dktX3_step_6 : List UInt8 := dkwX3_step_6 ++ dktX3_step_7
def dkwX3_step_5 : List UInt8 := [182, 0, 25, 146, 182, 0, 54, 87, 42, 89, 180, 0, 22, 4, 96, 181, 0, 22, 167, 255, 209, 42, 44]
abbrev dktX3_step_5 : List UInt8 := dkwX3_step_5 ++ dktX3_step_6
def dkwX3_step_4 : List UInt8 := [182, 0, 25, 184, 0, 41, 153, 0, 39, 44, 182, 0, 50, 16, 7, 162, 0, 17, 44, 42, 42, 180, 0, 22]
abbrev dktX3_step_4 : List UInt8 := dkwX3_step_4 ++ dktX3_step_5
def dkwX3_step_3 : List UInt8 := [27, 184, 0, 41, 153, 0, 81, 187, 0, 45, 89, 16, 8, 183, 0, 47, 77, 42, 42, 180, 0, 22]
abbrev dktX3_step_3 : List UInt8 := dkwX3_step_3 ++ dktX3_step_4
def dkwX3_step_2 : List UInt8 := [42, 42, 180, 0, 22, 182, 0, 25, 60, 27, 2, 160, 0, 13, 42, 178, 0, 32, 181, 0, 38, 167, 0, 221]
abbrev dktX3_step_2 : List UInt8 := dkwX3_step_2 ++ dktX3_step_3
def dkwX3_step_1 : List UInt8 := [160, 0, 16, 42, 89, 180, 0, 22, 4, 96, 181, 0, 22, 167, 255, 220, 42, 42, 180, 0, 22, 181, 0, 29]
abbrev dktX3_step_1 : List UInt8 := dkwX3_step_1 ++ dktX3_step_2
def dkwX3_step_0 : List UInt8 := [42, 42, 180, 0, 22, 182, 0, 25, 16, 10, 159, 0, 16, 42, 42, 180, 0, 22, 182, 0, 25, 16, 32]
abbrev dktX3_step_0 : List UInt8 := dkwX3_step_0 ++ dktX3_step_1
theorem dksX3_step_0 : cX3_step.data.toList.drop 0 = dktX3_step_0 := by decide +kernel
theorem dksX3_step_1 : cX3_step.data.toList.drop 23 = dktX3_step_1 := dk_seg dksX3_step_0 23 rfl rfl
theorem dksX3_step_2 : cX3_step.data.toList.drop 47 = dktX3_step_2 := dk_seg dksX3_step_1 24 rfl rfl
theorem dksX3_step_3 : cX3_step.data.toList.drop 71 = dktX3_step_3 := dk_seg dksX3_step_2 24 rfl rfl
theorem dksX3_step_4 : cX3_step.data.toList.drop 93 = dktX3_step_4 := dk_seg dksX3_step_3 22 rfl rfl
theorem dksX3_step_5 : cX3_step.data.toList.drop 117 = dktX3_step_5 := dk_seg dksX3_step_4 24 rfl rfl
theorem dksX3_step_6 : cX3_step.data.toList.drop 140 = dktX3_step_6 := dk_seg dksX3_step_5 23 rfl rfl
theorem dksX3_step_7 : cX3_step.data.toList.drop 164 = dktX3_step_7 := dk_seg dksX3_step_6 24 rfl rfl
theorem dksX3_step_8 : cX3_step.data.toList.drop 187 = dktX3_step_8 := dk_seg dksX3_step_7 23 rfl rfl
theorem dksX3_step_9 : cX3_step.data.toList.drop 211 = dktX3_step_9 := dk_seg dksX3_step_8 24 rfl rfl
theorem dksX3_step_10 : cX3_step.data.toList.drop 233 = dktX3_step_10 := dk_seg dksX3_step_9 22 rfl rfl
theorem dksX3_step_11 : cX3_step.data.toList.drop 257 = dktX3_step_11 := dk_seg dksX3_step_10 24 rfl rfl
theorem dksX3_step_12 : cX3_step.data.toList.drop 280 = dktX3_step_12 := dk_seg dksX3_step_11 23 rfl rfl
theorem dX3_step_0 : decode cX3_step 0 = .ok (.aload_n 0, 1) := dk_42 (dk_at dksX3_step_0 0 rfl rfl)
theorem dX3_step_1 : decode cX3_step 1 = .ok (.aload_n 0, 1) := dk_42 (dk_at dksX3_step_0 1 rfl rfl)
theorem dX3_step_2 : decode cX3_step 2 = .ok (.getfield 22, 3) := dk_180 0 22 (dk_at dksX3_step_0 2 rfl rfl)
theorem dX3_step_5 : decode cX3_step 5 = .ok (.invokevirtual 25, 3) := dk_182 0 25 (dk_at dksX3_step_0 5 rfl rfl)
theorem dX3_step_8 : decode cX3_step 8 = .ok (.bipush 10, 2) := dk_16 10 (dk_at dksX3_step_0 8 rfl rfl)
theorem dX3_step_10 : decode cX3_step 10 = .ok (.if_icmp .eq 16, 3) := dk_159 0 16 (dk_at dksX3_step_0 10 rfl rfl)
theorem dX3_step_13 : decode cX3_step 13 = .ok (.aload_n 0, 1) := dk_42 (dk_at dksX3_step_0 13 rfl rfl)
theorem dX3_step_14 : decode cX3_step 14 = .ok (.aload_n 0, 1) := dk_42 (dk_at dksX3_step_0 14 rfl rfl)
theorem dX3_step_15 : decode cX3_step 15 = .ok (.getfield 22, 3) := dk_180 0 22 (dk_at dksX3_step_0 15 rfl rfl)
theorem dX3_step_18 : decode cX3_step 18 = .ok (.invokevirtual 25, 3) := dk_182 0 25 (dk_at dksX3_step_0 18 rfl rfl)
theorem dX3_step_21 : decode cX3_step 21 = .ok (.bipush 32, 2) := dk_16 32 (dk_at dksX3_step_0 21 rfl rfl)
theorem dX3_step_23 : decode cX3_step 23 = .ok (.if_icmp .ne 16, 3) := dk_160 0 16 (dk_at dksX3_step_1 0 rfl rfl)
theorem dX3_step_26 : decode cX3_step 26 = .ok (.aload_n 0, 1) := dk_42 (dk_at dksX3_step_1 3 rfl rfl)
theorem dX3_step_27 : decode cX3_step 27 = .ok (.dup, 1) := dk_89 (dk_at dksX3_step_1 4 rfl rfl)
theorem dX3_step_28 : decode cX3_step 28 = .ok (.getfield 22, 3) := dk_180 0 22 (dk_at dksX3_step_1 5 rfl rfl)
theorem dX3_step_31 : decode cX3_step 31 = .ok (.iconst 1, 1) := dk_4 (dk_at dksX3_step_1 8 rfl rfl)
theorem dX3_step_32 : decode cX3_step 32 = .ok (.iadd, 1) := dk_96 (dk_at dksX3_step_1 9 rfl rfl)
theorem dX3_step_33 : decode cX3_step 33 = .ok (.putfield 22, 3) := dk_181 0 22 (dk_at dksX3_step_1 10 rfl rfl)
theorem dX3_step_36 : decode cX3_step 36 = .ok (.goto (-36), 3) := dk_167 255 220 (dk_at dksX3_step_1 13 rfl rfl)
theorem dX3_step_39 : decode cX3_step 39 = .ok (.aload_n 0, 1) := dk_42 (dk_at dksX3_step_1 16 rfl rfl)
theorem dX3_step_40 : decode cX3_step 40 = .ok (.aload_n 0, 1) := dk_42 (dk_at dksX3_step_1 17 rfl rfl)
theorem dX3_step_41 : decode cX3_step 41 = .ok (.getfield 22, 3) := dk_180 0 22 (dk_at dksX3_step_1 18 rfl rfl)
theorem dX3_step_44 : decode cX3_step 44 = .ok (.putfield 29, 3) := dk_181 0 29 (dk_at dksX3_step_1 21 rfl rfl)
theorem dX3_step_47 : decode cX3_step 47 = .ok (.aload_n 0, 1) := dk_42 (dk_at dksX3_step_2 0 rfl rfl)
theorem dX3_step_48 : decode cX3_step 48 = .ok (.aload_n 0, 1) := dk_42 (dk_at dksX3_step_2 1 rfl rfl)
theorem dX3_step_49 : decode cX3_step 49 = .ok (.getfield 22, 3) := dk_180 0 22 (dk_at dksX3_step_2 2 rfl rfl)
theorem dX3_step_52 : decode cX3_step 52 = .ok (.invokevirtual 25, 3) := dk_182 0 25 (dk_at dksX3_step_2 5 rfl rfl)
theorem dX3_step_55 : decode cX3_step 55 = .ok (.istore_n 1, 1) := dk_60 (dk_at dksX3_step_2 8 rfl rfl)
theorem dX3_step_56 : decode cX3_step 56 = .ok (.iload_n 1, 1) := dk_27 (dk_at dksX3_step_2 9 rfl rfl)
theorem dX3_step_57 : decode cX3_step 57 = .ok (.iconst (-1), 1) := dk_2 (dk_at dksX3_step_2 10 rfl rfl)
theorem dX3_step_58 : decode cX3_step 58 = .ok (.if_icmp .ne 13, 3) := dk_160 0 13 (dk_at dksX3_step_2 11 rfl rfl)
theorem dX3_step_61 : decode cX3_step 61 = .ok (.aload_n 0, 1) := dk_42 (dk_at dksX3_step_2 14 rfl rfl)
theorem dX3_step_62 : decode cX3_step 62 = .ok (.getstatic 32, 3) := dk_178 0 32 (dk_at dksX3_step_2 15 rfl rfl)
theorem dX3_step_65 : decode cX3_step 65 = .ok (.putfield 38, 3) := dk_181 0 38 (dk_at dksX3_step_2 18 rfl rfl)
theorem dX3_step_68 : decode cX3_step 68 = .ok (.goto 221, 3) := dk_167 0 221 (dk_at dksX3_step_2 21 rfl rfl)
theorem dX3_step_71 : decode cX3_step 71 = .ok (.iload_n 1, 1) := dk_27 (dk_at dksX3_step_3 0 rfl rfl)
theorem dX3_step_72 : decode cX3_step 72 = .ok (.invokestatic 41, 3) := dk_184 0 41 (dk_at dksX3_step_3 1 rfl rfl)
theorem dX3_step_75 : decode cX3_step 75 = .ok (.ifCond .eq 81, 3) := dk_153 0 81 (dk_at dksX3_step_3 4 rfl rfl)
theorem dX3_step_78 : decode cX3_step 78 = .ok (.new 45, 3) := dk_187 0 45 (dk_at dksX3_step_3 7 rfl rfl)
theorem dX3_step_81 : decode cX3_step 81 = .ok (.dup, 1) := dk_89 (dk_at dksX3_step_3 10 rfl rfl)
theorem dX3_step_82 : decode cX3_step 82 = .ok (.bipush 8, 2) := dk_16 8 (dk_at dksX3_step_3 11 rfl rfl)
theorem dX3_step_84 : decode cX3_step 84 = .ok (.invokespecial 47, 3) := dk_183 0 47 (dk_at dksX3_step_3 13 rfl rfl)
theorem dX3_step_87 : decode cX3_step 87 = .ok (.astore_n 2, 1) := dk_77 (dk_at dksX3_step_3 16 rfl rfl)
theorem dX3_step_88 : decode cX3_step 88 = .ok (.aload_n 0, 1) := dk_42 (dk_at dksX3_step_3 17 rfl rfl)
theorem dX3_step_89 : decode cX3_step 89 = .ok (.aload_n 0, 1) := dk_42 (dk_at dksX3_step_3 18 rfl rfl)
theorem dX3_step_90 : decode cX3_step 90 = .ok (.getfield 22, 3) := dk_180 0 22 (dk_at dksX3_step_3 19 rfl rfl)
theorem dX3_step_93 : decode cX3_step 93 = .ok (.invokevirtual 25, 3) := dk_182 0 25 (dk_at dksX3_step_4 0 rfl rfl)
theorem dX3_step_96 : decode cX3_step 96 = .ok (.invokestatic 41, 3) := dk_184 0 41 (dk_at dksX3_step_4 3 rfl rfl)
theorem dX3_step_99 : decode cX3_step 99 = .ok (.ifCond .eq 39, 3) := dk_153 0 39 (dk_at dksX3_step_4 6 rfl rfl)
theorem dX3_step_102 : decode cX3_step 102 = .ok (.aload_n 2, 1) := dk_44 (dk_at dksX3_step_4 9 rfl rfl)
theorem dX3_step_103 : decode cX3_step 103 = .ok (.invokevirtual 50, 3) := dk_182 0 50 (dk_at dksX3_step_4 10 rfl rfl)
theorem dX3_step_106 : decode cX3_step 106 = .ok (.bipush 7, 2) := dk_16 7 (dk_at dksX3_step_4 13 rfl rfl)
theorem dX3_step_108 : decode cX3_step 108 = .ok (.if_icmp .ge 17, 3) := dk_162 0 17 (dk_at dksX3_step_4 15 rfl rfl)
theorem dX3_step_111 : decode cX3_step 111 = .ok (.aload_n 2, 1) := dk_44 (dk_at dksX3_step_4 18 rfl rfl)
theorem dX3_step_112 : decode cX3_step 112 = .ok (.aload_n 0, 1) := dk_42 (dk_at dksX3_step_4 19 rfl rfl)
theorem dX3_step_113 : decode cX3_step 113 = .ok (.aload_n 0, 1) := dk_42 (dk_at dksX3_step_4 20 rfl rfl)
theorem dX3_step_114 : decode cX3_step 114 = .ok (.getfield 22, 3) := dk_180 0 22 (dk_at dksX3_step_4 21 rfl rfl)
theorem dX3_step_117 : decode cX3_step 117 = .ok (.invokevirtual 25, 3) := dk_182 0 25 (dk_at dksX3_step_5 0 rfl rfl)
theorem dX3_step_120 : decode cX3_step 120 = .ok (.i2c, 1) := dk_146 (dk_at dksX3_step_5 3 rfl rfl)
theorem dX3_step_121 : decode cX3_step 121 = .ok (.invokevirtual 54, 3) := dk_182 0 54 (dk_at dksX3_step_5 4 rfl rfl)
theorem dX3_step_124 : decode cX3_step 124 = .ok (.pop, 1) := dk_87 (dk_at dksX3_step_5 7 rfl rfl)
theorem dX3_step_125 : decode cX3_step 125 = .ok (.aload_n 0, 1) := dk_42 (dk_at dksX3_step_5 8 rfl rfl)
theorem dX3_step_126 : decode cX3_step 126 = .ok (.dup, 1) := dk_89 (dk_at dksX3_step_5 9 rfl rfl)
theorem dX3_step_127 : decode cX3_step 127 = .ok (.getfield 22, 3) := dk_180 0 22 (dk_at dksX3_step_5 10 rfl rfl)
theorem dX3_step_130 : decode cX3_step 130 = .ok (.iconst 1, 1) := dk_4 (dk_at dksX3_step_5 13 rfl rfl)
theorem dX3_step_131 : decode cX3_step 131 = .ok (.iadd, 1) := dk_96 (dk_at dksX3_step_5 14 rfl rfl)
theorem dX3_step_132 : decode cX3_step 132 = .ok (.putfield 22, 3) := dk_181 0 22 (dk_at dksX3_step_5 15 rfl rfl)
theorem dX3_step_135 : decode cX3_step 135 = .ok (.goto (-47), 3) := dk_167 255 209 (dk_at dksX3_step_5 18 rfl rfl)
theorem dX3_step_138 : decode cX3_step 138 = .ok (.aload_n 0, 1) := dk_42 (dk_at dksX3_step_5 21 rfl rfl)
theorem dX3_step_139 : decode cX3_step 139 = .ok (.aload_n 2, 1) := dk_44 (dk_at dksX3_step_5 22 rfl rfl)
theorem dX3_step_140 : decode cX3_step 140 = .ok (.invokevirtual 58, 3) := dk_182 0 58 (dk_at dksX3_step_6 0 rfl rfl)
theorem dX3_step_143 : decode cX3_step 143 = .ok (.putfield 62, 3) := dk_181 0 62 (dk_at dksX3_step_6 3 rfl rfl)
theorem dX3_step_146 : decode cX3_step 146 = .ok (.aload_n 0, 1) := dk_42 (dk_at dksX3_step_6 6 rfl rfl)
theorem dX3_step_147 : decode cX3_step 147 = .ok (.getstatic 66, 3) := dk_178 0 66 (dk_at dksX3_step_6 7 rfl rfl)
theorem dX3_step_150 : decode cX3_step 150 = .ok (.putfield 38, 3) := dk_181 0 38 (dk_at dksX3_step_6 10 rfl rfl)
theorem dX3_step_153 : decode cX3_step 153 = .ok (.goto 136, 3) := dk_167 0 136 (dk_at dksX3_step_6 13 rfl rfl)
theorem dX3_step_156 : decode cX3_step 156 = .ok (.iload_n 1, 1) := dk_27 (dk_at dksX3_step_6 16 rfl rfl)
theorem dX3_step_157 : decode cX3_step 157 = .ok (.invokestatic 69, 3) := dk_184 0 69 (dk_at dksX3_step_6 17 rfl rfl)
theorem dX3_step_160 : decode cX3_step 160 = .ok (.ifCond .eq 100, 3) := dk_153 0 100 (dk_at dksX3_step_6 20 rfl rfl)
theorem dX3_step_163 : decode cX3_step 163 = .ok (.aload_n 0, 1) := dk_42 (dk_at dksX3_step_6 23 rfl rfl)
theorem dX3_step_164 : decode cX3_step 164 = .ok (.iconst 0, 1) := dk_3 (dk_at dksX3_step_7 0 rfl rfl)
theorem dX3_step_165 : decode cX3_step 165 = .ok (.putfield 72, 3) := dk_181 0 72 (dk_at dksX3_step_7 1 rfl rfl)
theorem dX3_step_168 : decode cX3_step 168 = .ok (.aload_n 0, 1) := dk_42 (dk_at dksX3_step_7 4 rfl rfl)
theorem dX3_step_169 : decode cX3_step 169 = .ok (.aload_n 0, 1) := dk_42 (dk_at dksX3_step_7 5 rfl rfl)
theorem dX3_step_170 : decode cX3_step 170 = .ok (.getfield 22, 3) := dk_180 0 22 (dk_at dksX3_step_7 6 rfl rfl)
theorem dX3_step_173 : decode cX3_step 173 = .ok (.invokevirtual 25, 3) := dk_182 0 25 (dk_at dksX3_step_7 9 rfl rfl)
theorem dX3_step_176 : decode cX3_step 176 = .ok (.invokestatic 69, 3) := dk_184 0 69 (dk_at dksX3_step_7 12 rfl rfl)
theorem dX3_step_179 : decode cX3_step 179 = .ok (.ifCond .eq 52, 3) := dk_153 0 52 (dk_at dksX3_step_7 15 rfl rfl)
theorem dX3_step_182 : decode cX3_step 182 = .ok (.aload_n 0, 1) := dk_42 (dk_at dksX3_step_7 18 rfl rfl)
theorem dX3_step_183 : decode cX3_step 183 = .ok (.getfield 22, 3) := dk_180 0 22 (dk_at dksX3_step_7 19 rfl rfl)
theorem dX3_step_186 : decode cX3_step 186 = .ok (.aload_n 0, 1) := dk_42 (dk_at dksX3_step_7 22 rfl rfl)
theorem dX3_step_187 : decode cX3_step 187 = .ok (.getfield 29, 3) := dk_180 0 29 (dk_at dksX3_step_8 0 rfl rfl)
theorem dX3_step_190 : decode cX3_step 190 = .ok (.isub, 1) := dk_100 (dk_at dksX3_step_8 3 rfl rfl)
theorem dX3_step_191 : decode cX3_step 191 = .ok (.iconst 2, 1) := dk_5 (dk_at dksX3_step_8 4 rfl rfl)
theorem dX3_step_192 : decode cX3_step 192 = .ok (.if_icmp .ge 26, 3) := dk_162 0 26 (dk_at dksX3_step_8 5 rfl rfl)
theorem dX3_step_195 : decode cX3_step 195 = .ok (.aload_n 0, 1) := dk_42 (dk_at dksX3_step_8 8 rfl rfl)
theorem dX3_step_196 : decode cX3_step 196 = .ok (.bipush 10, 2) := dk_16 10 (dk_at dksX3_step_8 9 rfl rfl)
theorem dX3_step_198 : decode cX3_step 198 = .ok (.aload_n 0, 1) := dk_42 (dk_at dksX3_step_8 11 rfl rfl)
theorem dX3_step_199 : decode cX3_step 199 = .ok (.getfield 72, 3) := dk_180 0 72 (dk_at dksX3_step_8 12 rfl rfl)
theorem dX3_step_202 : decode cX3_step 202 = .ok (.imul, 1) := dk_104 (dk_at dksX3_step_8 15 rfl rfl)
theorem dX3_step_203 : decode cX3_step 203 = .ok (.aload_n 0, 1) := dk_42 (dk_at dksX3_step_8 16 rfl rfl)
theorem dX3_step_204 : decode cX3_step 204 = .ok (.aload_n 0, 1) := dk_42 (dk_at dksX3_step_8 17 rfl rfl)
theorem dX3_step_205 : decode cX3_step 205 = .ok (.getfield 22, 3) := dk_180 0 22 (dk_at dksX3_step_8 18 rfl rfl)
theorem dX3_step_208 : decode cX3_step 208 = .ok (.invokevirtual 25, 3) := dk_182 0 25 (dk_at dksX3_step_8 21 rfl rfl)
theorem dX3_step_211 : decode cX3_step 211 = .ok (.iadd, 1) := dk_96 (dk_at dksX3_step_9 0 rfl rfl)
theorem dX3_step_212 : decode cX3_step 212 = .ok (.bipush 48, 2) := dk_16 48 (dk_at dksX3_step_9 1 rfl rfl)
theorem dX3_step_214 : decode cX3_step 214 = .ok (.isub, 1) := dk_100 (dk_at dksX3_step_9 3 rfl rfl)
theorem dX3_step_215 : decode cX3_step 215 = .ok (.putfield 72, 3) := dk_181 0 72 (dk_at dksX3_step_9 4 rfl rfl)
theorem dX3_step_218 : decode cX3_step 218 = .ok (.aload_n 0, 1) := dk_42 (dk_at dksX3_step_9 7 rfl rfl)
theorem dX3_step_219 : decode cX3_step 219 = .ok (.dup, 1) := dk_89 (dk_at dksX3_step_9 8 rfl rfl)
theorem dX3_step_220 : decode cX3_step 220 = .ok (.getfield 22, 3) := dk_180 0 22 (dk_at dksX3_step_9 9 rfl rfl)
theorem dX3_step_223 : decode cX3_step 223 = .ok (.iconst 1, 1) := dk_4 (dk_at dksX3_step_9 12 rfl rfl)
theorem dX3_step_224 : decode cX3_step 224 = .ok (.iadd, 1) := dk_96 (dk_at dksX3_step_9 13 rfl rfl)
theorem dX3_step_225 : decode cX3_step 225 = .ok (.putfield 22, 3) := dk_181 0 22 (dk_at dksX3_step_9 14 rfl rfl)
theorem dX3_step_228 : decode cX3_step 228 = .ok (.goto (-60), 3) := dk_167 255 196 (dk_at dksX3_step_9 17 rfl rfl)
theorem dX3_step_231 : decode cX3_step 231 = .ok (.aload_n 0, 1) := dk_42 (dk_at dksX3_step_9 20 rfl rfl)
theorem dX3_step_232 : decode cX3_step 232 = .ok (.aload_n 0, 1) := dk_42 (dk_at dksX3_step_9 21 rfl rfl)
theorem dX3_step_233 : decode cX3_step 233 = .ok (.getfield 22, 3) := dk_180 0 22 (dk_at dksX3_step_10 0 rfl rfl)
theorem dX3_step_236 : decode cX3_step 236 = .ok (.aload_n 0, 1) := dk_42 (dk_at dksX3_step_10 3 rfl rfl)
theorem dX3_step_237 : decode cX3_step 237 = .ok (.getfield 29, 3) := dk_180 0 29 (dk_at dksX3_step_10 4 rfl rfl)
theorem dX3_step_240 : decode cX3_step 240 = .ok (.isub, 1) := dk_100 (dk_at dksX3_step_10 7 rfl rfl)
theorem dX3_step_241 : decode cX3_step 241 = .ok (.iconst 2, 1) := dk_5 (dk_at dksX3_step_10 8 rfl rfl)
theorem dX3_step_242 : decode cX3_step 242 = .ok (.if_icmp .le 9, 3) := dk_164 0 9 (dk_at dksX3_step_10 9 rfl rfl)
theorem dX3_step_245 : decode cX3_step 245 = .ok (.getstatic 75, 3) := dk_178 0 75 (dk_at dksX3_step_10 12 rfl rfl)
theorem dX3_step_248 : decode cX3_step 248 = .ok (.goto 6, 3) := dk_167 0 6 (dk_at dksX3_step_10 15 rfl rfl)
theorem dX3_step_251 : decode cX3_step 251 = .ok (.getstatic 78, 3) := dk_178 0 78 (dk_at dksX3_step_10 18 rfl rfl)
theorem dX3_step_254 : decode cX3_step 254 = .ok (.putfield 38, 3) := dk_181 0 38 (dk_at dksX3_step_10 21 rfl rfl)
theorem dX3_step_257 : decode cX3_step 257 = .ok (.goto 32, 3) := dk_167 0 32 (dk_at dksX3_step_11 0 rfl rfl)
theorem dX3_step_260 : decode cX3_step 260 = .ok (.aload_n 0, 1) := dk_42 (dk_at dksX3_step_11 3 rfl rfl)
theorem dX3_step_261 : decode cX3_step 261 = .ok (.dup, 1) := dk_89 (dk_at dksX3_step_11 4 rfl rfl)
theorem dX3_step_262 : decode cX3_step 262 = .ok (.getfield 22, 3) := dk_180 0 22 (dk_at dksX3_step_11 5 rfl rfl)
theorem dX3_step_265 : decode cX3_step 265 = .ok (.iconst 1, 1) := dk_4 (dk_at dksX3_step_11 8 rfl rfl)
theorem dX3_step_266 : decode cX3_step 266 = .ok (.iadd, 1) := dk_96 (dk_at dksX3_step_11 9 rfl rfl)
theorem dX3_step_267 : decode cX3_step 267 = .ok (.putfield 22, 3) := dk_181 0 22 (dk_at dksX3_step_11 10 rfl rfl)
theorem dX3_step_270 : decode cX3_step 270 = .ok (.aload_n 0, 1) := dk_42 (dk_at dksX3_step_11 13 rfl rfl)
theorem dX3_step_271 : decode cX3_step 271 = .ok (.iload_n 1, 1) := dk_27 (dk_at dksX3_step_11 14 rfl rfl)
theorem dX3_step_272 : decode cX3_step 272 = .ok (.bipush 59, 2) := dk_16 59 (dk_at dksX3_step_11 15 rfl rfl)
theorem dX3_step_274 : decode cX3_step 274 = .ok (.if_icmp .ne 9, 3) := dk_160 0 9 (dk_at dksX3_step_11 17 rfl rfl)
theorem dX3_step_277 : decode cX3_step 277 = .ok (.getstatic 81, 3) := dk_178 0 81 (dk_at dksX3_step_11 20 rfl rfl)
theorem dX3_step_280 : decode cX3_step 280 = .ok (.goto 6, 3) := dk_167 0 6 (dk_at dksX3_step_12 0 rfl rfl)
theorem dX3_step_283 : decode cX3_step 283 = .ok (.getstatic 75, 3) := dk_178 0 75 (dk_at dksX3_step_12 3 rfl rfl)
theorem dX3_step_286 : decode cX3_step 286 = .ok (.putfield 38, 3) := dk_181 0 38 (dk_at dksX3_step_12 6 rfl rfl)
theorem dX3_step_289 : decode cX3_step 289 = .ok (.return_, 1) := dk_177 (dk_at dksX3_step_12 9 rfl rfl)
abbrev cX3_at : ByteArray := prog_17_method_2_code
def yX3_at : MethodName := ⟨RX3, "at", "(I)I"⟩
def dkwX3_at_0 : List UInt8 := [27, 42, 180, 0, 15, 162, 0, 16, 42, 180, 0, 9, 27, 51, 17, 0, 255, 126, 167, 0, 4, 2, 172]
abbrev dktX3_at_0 : List UInt8 := dkwX3_at_0 ++ []
theorem dksX3_at_0 : cX3_at.data.toList.drop 0 = dktX3_at_0 := by decide +kernel
theorem dX3_at_0 : decode cX3_at 0 = .ok (.iload_n 1, 1) := dk_27 (dk_at dksX3_at_0 0 rfl rfl)
theorem dX3_at_1 : decode cX3_at 1 = .ok (.aload_n 0, 1) := dk_42 (dk_at dksX3_at_0 1 rfl rfl)
theorem dX3_at_2 : decode cX3_at 2 = .ok (.getfield 15, 3) := dk_180 0 15 (dk_at dksX3_at_0 2 rfl rfl)
theorem dX3_at_5 : decode cX3_at 5 = .ok (.if_icmp .ge 16, 3) := dk_162 0 16 (dk_at dksX3_at_0 5 rfl rfl)
theorem dX3_at_8 : decode cX3_at 8 = .ok (.aload_n 0, 1) := dk_42 (dk_at dksX3_at_0 8 rfl rfl)
theorem dX3_at_9 : decode cX3_at 9 = .ok (.getfield 9, 3) := dk_180 0 9 (dk_at dksX3_at_0 9 rfl rfl)
theorem dX3_at_12 : decode cX3_at 12 = .ok (.iload_n 1, 1) := dk_27 (dk_at dksX3_at_0 12 rfl rfl)
theorem dX3_at_13 : decode cX3_at 13 = .ok (.baload, 1) := dk_51 (dk_at dksX3_at_0 13 rfl rfl)
theorem dX3_at_14 : decode cX3_at 14 = .ok (.sipush 255, 3) := dk_17 0 255 (dk_at dksX3_at_0 14 rfl rfl)
theorem dX3_at_17 : decode cX3_at 17 = .ok (.iand, 1) := dk_126 (dk_at dksX3_at_0 17 rfl rfl)
theorem dX3_at_18 : decode cX3_at 18 = .ok (.goto 4, 3) := dk_167 0 4 (dk_at dksX3_at_0 18 rfl rfl)
theorem dX3_at_21 : decode cX3_at 21 = .ok (.iconst (-1), 1) := dk_2 (dk_at dksX3_at_0 21 rfl rfl)
theorem dX3_at_22 : decode cX3_at 22 = .ok (.ireturn, 1) := dk_172 (dk_at dksX3_at_0 22 rfl rfl)
abbrev cX3_isLetter : ByteArray := prog_17_method_3_code
def yX3_isLetter : MethodName := ⟨RX3, "isLetter", "(I)Z"⟩
def dkwX3_isLetter_0 : List UInt8 := [26, 16, 97, 161, 0, 13, 26, 16, 122, 163, 0, 7, 4, 167, 0, 4, 3, 172]
abbrev dktX3_isLetter_0 : List UInt8 := dkwX3_isLetter_0 ++ []
theorem dksX3_isLetter_0 : cX3_isLetter.data.toList.drop 0 = dktX3_isLetter_0 := by decide +kernel
theorem dX3_isLetter_0 : decode cX3_isLetter 0 = .ok (.iload_n 0, 1) := dk_26 (dk_at dksX3_isLetter_0 0 rfl rfl)
theorem dX3_isLetter_1 : decode cX3_isLetter 1 = .ok (.bipush 97, 2) := dk_16 97 (dk_at dksX3_isLetter_0 1 rfl rfl)
theorem dX3_isLetter_3 : decode cX3_isLetter 3 = .ok (.if_icmp .lt 13, 3) := dk_161 0 13 (dk_at dksX3_isLetter_0 3 rfl rfl)
theorem dX3_isLetter_6 : decode cX3_isLetter 6 = .ok (.iload_n 0, 1) := dk_26 (dk_at dksX3_isLetter_0 6 rfl rfl)
theorem dX3_isLetter_7 : decode cX3_isLetter 7 = .ok (.bipush 122, 2) := dk_16 122 (dk_at dksX3_isLetter_0 7 rfl rfl)
theorem dX3_isLetter_9 : decode cX3_isLetter 9 = .ok (.if_icmp .gt 7, 3) := dk_163 0 7 (dk_at dksX3_isLetter_0 9 rfl rfl)
theorem dX3_isLetter_12 : decode cX3_isLetter 12 = .ok (.iconst 1, 1) := dk_4 (dk_at dksX3_isLetter_0 12 rfl rfl)
theorem dX3_isLetter_13 : decode cX3_isLetter 13 = .ok (.goto 4, 3) := dk_167 0 4 (dk_at dksX3_isLetter_0 13 rfl rfl)
theorem dX3_isLetter_16 : decode cX3_isLetter 16 = .ok (.iconst 0, 1) := dk_3 (dk_at dksX3_isLetter_0 16 rfl rfl)
theorem dX3_isLetter_17 : decode cX3_isLetter 17 = .ok (.ireturn, 1) := dk_172 (dk_at dksX3_isLetter_0 17 rfl rfl)
abbrev cX3_isDigit : ByteArray := prog_17_method_4_code
def yX3_isDigit : MethodName := ⟨RX3, "isDigit", "(I)Z"⟩
def dkwX3_isDigit_0 : List UInt8 := [26, 16, 48, 161, 0, 13, 26, 16, 57, 163, 0, 7, 4, 167, 0, 4, 3, 172]
abbrev dktX3_isDigit_0 : List UInt8 := dkwX3_isDigit_0 ++ []
theorem dksX3_isDigit_0 : cX3_isDigit.data.toList.drop 0 = dktX3_isDigit_0 := by decide +kernel
theorem dX3_isDigit_0 : decode cX3_isDigit 0 = .ok (.iload_n 0, 1) := dk_26 (dk_at dksX3_isDigit_0 0 rfl rfl)
theorem dX3_isDigit_1 : decode cX3_isDigit 1 = .ok (.bipush 48, 2) := dk_16 48 (dk_at dksX3_isDigit_0 1 rfl rfl)
theorem dX3_isDigit_3 : decode cX3_isDigit 3 = .ok (.if_icmp .lt 13, 3) := dk_161 0 13 (dk_at dksX3_isDigit_0 3 rfl rfl)
theorem dX3_isDigit_6 : decode cX3_isDigit 6 = .ok (.iload_n 0, 1) := dk_26 (dk_at dksX3_isDigit_0 6 rfl rfl)
theorem dX3_isDigit_7 : decode cX3_isDigit 7 = .ok (.bipush 57, 2) := dk_16 57 (dk_at dksX3_isDigit_0 7 rfl rfl)
theorem dX3_isDigit_9 : decode cX3_isDigit 9 = .ok (.if_icmp .gt 7, 3) := dk_163 0 7 (dk_at dksX3_isDigit_0 9 rfl rfl)
theorem dX3_isDigit_12 : decode cX3_isDigit 12 = .ok (.iconst 1, 1) := dk_4 (dk_at dksX3_isDigit_0 12 rfl rfl)
theorem dX3_isDigit_13 : decode cX3_isDigit 13 = .ok (.goto 4, 3) := dk_167 0 4 (dk_at dksX3_isDigit_0 13 rfl rfl)
theorem dX3_isDigit_16 : decode cX3_isDigit 16 = .ok (.iconst 0, 1) := dk_3 (dk_at dksX3_isDigit_0 16 rfl rfl)
theorem dX3_isDigit_17 : decode cX3_isDigit 17 = .ok (.ireturn, 1) := dk_172 (dk_at dksX3_isDigit_0 17 rfl rfl)
abbrev cX3_lines : ByteArray := prog_17_method_16_code
def yX3_lines : MethodName := ⟨RX3, "lines", "()V"⟩
def dkwX3_lines_3 : List UInt8 := [180, 0, 99, 191, 177]
abbrev dktX3_lines_3 : List UInt8 := dkwX3_lines_3 ++ []
def dkwX3_lines_2 : List UInt8 := [153, 0, 15, 42, 42, 182, 0, 124, 42, 180, 0, 29, 182, 0, 111, 42, 180, 0, 99, 198, 0, 8, 42]
abbrev dktX3_lines_2 : List UInt8 := dkwX3_lines_2 ++ dktX3_lines_3
def dkwX3_lines_1 : List UInt8 := [42, 182, 0, 95, 191, 42, 182, 0, 19, 167, 255, 223, 42, 180, 0, 99, 199, 0, 22, 42, 182, 0, 124]
abbrev dktX3_lines_1 : List UInt8 := dkwX3_lines_1 ++ dktX3_lines_2
def dkwX3_lines_0 : List UInt8 := [42, 180, 0, 38, 178, 0, 32, 165, 0, 29, 42, 182, 0, 121, 42, 180, 0, 38, 178, 0, 81, 165, 0, 8]
abbrev dktX3_lines_0 : List UInt8 := dkwX3_lines_0 ++ dktX3_lines_1
theorem dksX3_lines_0 : cX3_lines.data.toList.drop 0 = dktX3_lines_0 := by decide +kernel
theorem dksX3_lines_1 : cX3_lines.data.toList.drop 24 = dktX3_lines_1 := dk_seg dksX3_lines_0 24 rfl rfl
theorem dksX3_lines_2 : cX3_lines.data.toList.drop 47 = dktX3_lines_2 := dk_seg dksX3_lines_1 23 rfl rfl
theorem dksX3_lines_3 : cX3_lines.data.toList.drop 70 = dktX3_lines_3 := dk_seg dksX3_lines_2 23 rfl rfl
theorem dX3_lines_0 : decode cX3_lines 0 = .ok (.aload_n 0, 1) := dk_42 (dk_at dksX3_lines_0 0 rfl rfl)
theorem dX3_lines_1 : decode cX3_lines 1 = .ok (.getfield 38, 3) := dk_180 0 38 (dk_at dksX3_lines_0 1 rfl rfl)
theorem dX3_lines_4 : decode cX3_lines 4 = .ok (.getstatic 32, 3) := dk_178 0 32 (dk_at dksX3_lines_0 4 rfl rfl)
theorem dX3_lines_7 : decode cX3_lines 7 = .ok (.if_acmp .eq 29, 3) := dk_165 0 29 (dk_at dksX3_lines_0 7 rfl rfl)
theorem dX3_lines_10 : decode cX3_lines 10 = .ok (.aload_n 0, 1) := dk_42 (dk_at dksX3_lines_0 10 rfl rfl)
theorem dX3_lines_11 : decode cX3_lines 11 = .ok (.invokevirtual 121, 3) := dk_182 0 121 (dk_at dksX3_lines_0 11 rfl rfl)
theorem dX3_lines_14 : decode cX3_lines 14 = .ok (.aload_n 0, 1) := dk_42 (dk_at dksX3_lines_0 14 rfl rfl)
theorem dX3_lines_15 : decode cX3_lines 15 = .ok (.getfield 38, 3) := dk_180 0 38 (dk_at dksX3_lines_0 15 rfl rfl)
theorem dX3_lines_18 : decode cX3_lines 18 = .ok (.getstatic 81, 3) := dk_178 0 81 (dk_at dksX3_lines_0 18 rfl rfl)
theorem dX3_lines_21 : decode cX3_lines 21 = .ok (.if_acmp .eq 8, 3) := dk_165 0 8 (dk_at dksX3_lines_0 21 rfl rfl)
theorem dX3_lines_24 : decode cX3_lines 24 = .ok (.aload_n 0, 1) := dk_42 (dk_at dksX3_lines_1 0 rfl rfl)
theorem dX3_lines_25 : decode cX3_lines 25 = .ok (.invokevirtual 95, 3) := dk_182 0 95 (dk_at dksX3_lines_1 1 rfl rfl)
theorem dX3_lines_28 : decode cX3_lines 28 = .ok (.athrow, 1) := dk_191 (dk_at dksX3_lines_1 4 rfl rfl)
theorem dX3_lines_29 : decode cX3_lines 29 = .ok (.aload_n 0, 1) := dk_42 (dk_at dksX3_lines_1 5 rfl rfl)
theorem dX3_lines_30 : decode cX3_lines 30 = .ok (.invokevirtual 19, 3) := dk_182 0 19 (dk_at dksX3_lines_1 6 rfl rfl)
theorem dX3_lines_33 : decode cX3_lines 33 = .ok (.goto (-33), 3) := dk_167 255 223 (dk_at dksX3_lines_1 9 rfl rfl)
theorem dX3_lines_36 : decode cX3_lines 36 = .ok (.aload_n 0, 1) := dk_42 (dk_at dksX3_lines_1 12 rfl rfl)
theorem dX3_lines_37 : decode cX3_lines 37 = .ok (.getfield 99, 3) := dk_180 0 99 (dk_at dksX3_lines_1 13 rfl rfl)
theorem dX3_lines_40 : decode cX3_lines 40 = .ok (.ifnonnull 22, 3) := dk_199 0 22 (dk_at dksX3_lines_1 16 rfl rfl)
theorem dX3_lines_43 : decode cX3_lines 43 = .ok (.aload_n 0, 1) := dk_42 (dk_at dksX3_lines_1 19 rfl rfl)
theorem dX3_lines_44 : decode cX3_lines 44 = .ok (.invokevirtual 124, 3) := dk_182 0 124 (dk_at dksX3_lines_1 20 rfl rfl)
theorem dX3_lines_47 : decode cX3_lines 47 = .ok (.ifCond .eq 15, 3) := dk_153 0 15 (dk_at dksX3_lines_2 0 rfl rfl)
theorem dX3_lines_50 : decode cX3_lines 50 = .ok (.aload_n 0, 1) := dk_42 (dk_at dksX3_lines_2 3 rfl rfl)
theorem dX3_lines_51 : decode cX3_lines 51 = .ok (.aload_n 0, 1) := dk_42 (dk_at dksX3_lines_2 4 rfl rfl)
theorem dX3_lines_52 : decode cX3_lines 52 = .ok (.invokevirtual 124, 3) := dk_182 0 124 (dk_at dksX3_lines_2 5 rfl rfl)
theorem dX3_lines_55 : decode cX3_lines 55 = .ok (.aload_n 0, 1) := dk_42 (dk_at dksX3_lines_2 8 rfl rfl)
theorem dX3_lines_56 : decode cX3_lines 56 = .ok (.getfield 29, 3) := dk_180 0 29 (dk_at dksX3_lines_2 9 rfl rfl)
theorem dX3_lines_59 : decode cX3_lines 59 = .ok (.invokevirtual 111, 3) := dk_182 0 111 (dk_at dksX3_lines_2 12 rfl rfl)
theorem dX3_lines_62 : decode cX3_lines 62 = .ok (.aload_n 0, 1) := dk_42 (dk_at dksX3_lines_2 15 rfl rfl)
theorem dX3_lines_63 : decode cX3_lines 63 = .ok (.getfield 99, 3) := dk_180 0 99 (dk_at dksX3_lines_2 16 rfl rfl)
theorem dX3_lines_66 : decode cX3_lines 66 = .ok (.ifnull 8, 3) := dk_198 0 8 (dk_at dksX3_lines_2 19 rfl rfl)
theorem dX3_lines_69 : decode cX3_lines 69 = .ok (.aload_n 0, 1) := dk_42 (dk_at dksX3_lines_2 22 rfl rfl)
theorem dX3_lines_70 : decode cX3_lines 70 = .ok (.getfield 99, 3) := dk_180 0 99 (dk_at dksX3_lines_3 0 rfl rfl)
theorem dX3_lines_73 : decode cX3_lines 73 = .ok (.athrow, 1) := dk_191 (dk_at dksX3_lines_3 3 rfl rfl)
theorem dX3_lines_74 : decode cX3_lines 74 = .ok (.return_, 1) := dk_177 (dk_at dksX3_lines_3 4 rfl rfl)
abbrev cX3_here : ByteArray := prog_17_method_6_code
def yX3_here : MethodName := ⟨RX3, "here", "()I"⟩
theorem dX3_here_0 : decode cX3_here 0 = .ok (.aload_n 0, 1) := by decide +kernel
theorem dX3_here_1 : decode cX3_here 1 = .ok (.getfield 29, 3) := by decide +kernel
theorem dX3_here_4 : decode cX3_here 4 = .ok (.ireturn, 1) := by decide +kernel
abbrev cX3_word : ByteArray := prog_17_method_8_code
def yX3_word : MethodName := ⟨RX3, "word", "([Ljava/lang/String;)I"⟩
def dkwX3_word_2 : List UInt8 := [182, 0, 95, 191]
abbrev dktX3_word_2 : List UInt8 := dkwX3_word_2 ++ []
def dkwX3_word_1 : List UInt8 := [50, 182, 0, 89, 154, 0, 6, 167, 0, 9, 42, 182, 0, 19, 28, 172, 132, 2, 1, 167, 255, 215, 42]
abbrev dktX3_word_1 : List UInt8 := dkwX3_word_1 ++ dktX3_word_2
def dkwX3_word_0 : List UInt8 := [3, 61, 28, 43, 190, 162, 0, 41, 42, 180, 0, 38, 178, 0, 66, 166, 0, 25, 42, 180, 0, 62, 43, 28]
abbrev dktX3_word_0 : List UInt8 := dkwX3_word_0 ++ dktX3_word_1
theorem dksX3_word_0 : cX3_word.data.toList.drop 0 = dktX3_word_0 := by decide +kernel
theorem dksX3_word_1 : cX3_word.data.toList.drop 24 = dktX3_word_1 := dk_seg dksX3_word_0 24 rfl rfl
theorem dksX3_word_2 : cX3_word.data.toList.drop 47 = dktX3_word_2 := dk_seg dksX3_word_1 23 rfl rfl
theorem dX3_word_0 : decode cX3_word 0 = .ok (.iconst 0, 1) := dk_3 (dk_at dksX3_word_0 0 rfl rfl)
theorem dX3_word_1 : decode cX3_word 1 = .ok (.istore_n 2, 1) := dk_61 (dk_at dksX3_word_0 1 rfl rfl)
theorem dX3_word_2 : decode cX3_word 2 = .ok (.iload_n 2, 1) := dk_28 (dk_at dksX3_word_0 2 rfl rfl)
theorem dX3_word_3 : decode cX3_word 3 = .ok (.aload_n 1, 1) := dk_43 (dk_at dksX3_word_0 3 rfl rfl)
theorem dX3_word_4 : decode cX3_word 4 = .ok (.arraylength, 1) := dk_190 (dk_at dksX3_word_0 4 rfl rfl)
theorem dX3_word_5 : decode cX3_word 5 = .ok (.if_icmp .ge 41, 3) := dk_162 0 41 (dk_at dksX3_word_0 5 rfl rfl)
theorem dX3_word_8 : decode cX3_word 8 = .ok (.aload_n 0, 1) := dk_42 (dk_at dksX3_word_0 8 rfl rfl)
theorem dX3_word_9 : decode cX3_word 9 = .ok (.getfield 38, 3) := dk_180 0 38 (dk_at dksX3_word_0 9 rfl rfl)
theorem dX3_word_12 : decode cX3_word 12 = .ok (.getstatic 66, 3) := dk_178 0 66 (dk_at dksX3_word_0 12 rfl rfl)
theorem dX3_word_15 : decode cX3_word 15 = .ok (.if_acmp .ne 25, 3) := dk_166 0 25 (dk_at dksX3_word_0 15 rfl rfl)
theorem dX3_word_18 : decode cX3_word 18 = .ok (.aload_n 0, 1) := dk_42 (dk_at dksX3_word_0 18 rfl rfl)
theorem dX3_word_19 : decode cX3_word 19 = .ok (.getfield 62, 3) := dk_180 0 62 (dk_at dksX3_word_0 19 rfl rfl)
theorem dX3_word_22 : decode cX3_word 22 = .ok (.aload_n 1, 1) := dk_43 (dk_at dksX3_word_0 22 rfl rfl)
theorem dX3_word_23 : decode cX3_word 23 = .ok (.iload_n 2, 1) := dk_28 (dk_at dksX3_word_0 23 rfl rfl)
theorem dX3_word_24 : decode cX3_word 24 = .ok (.aaload, 1) := dk_50 (dk_at dksX3_word_1 0 rfl rfl)
theorem dX3_word_25 : decode cX3_word 25 = .ok (.invokevirtual 89, 3) := dk_182 0 89 (dk_at dksX3_word_1 1 rfl rfl)
theorem dX3_word_28 : decode cX3_word 28 = .ok (.ifCond .ne 6, 3) := dk_154 0 6 (dk_at dksX3_word_1 4 rfl rfl)
theorem dX3_word_31 : decode cX3_word 31 = .ok (.goto 9, 3) := dk_167 0 9 (dk_at dksX3_word_1 7 rfl rfl)
theorem dX3_word_34 : decode cX3_word 34 = .ok (.aload_n 0, 1) := dk_42 (dk_at dksX3_word_1 10 rfl rfl)
theorem dX3_word_35 : decode cX3_word 35 = .ok (.invokevirtual 19, 3) := dk_182 0 19 (dk_at dksX3_word_1 11 rfl rfl)
theorem dX3_word_38 : decode cX3_word 38 = .ok (.iload_n 2, 1) := dk_28 (dk_at dksX3_word_1 14 rfl rfl)
theorem dX3_word_39 : decode cX3_word 39 = .ok (.ireturn, 1) := dk_172 (dk_at dksX3_word_1 15 rfl rfl)
theorem dX3_word_40 : decode cX3_word 40 = .ok (.iinc 2 1, 3) := dk_132 2 1 (dk_at dksX3_word_1 16 rfl rfl)
theorem dX3_word_43 : decode cX3_word 43 = .ok (.goto (-41), 3) := dk_167 255 215 (dk_at dksX3_word_1 19 rfl rfl)
theorem dX3_word_46 : decode cX3_word 46 = .ok (.aload_n 0, 1) := dk_42 (dk_at dksX3_word_1 22 rfl rfl)
theorem dX3_word_47 : decode cX3_word 47 = .ok (.invokevirtual 95, 3) := dk_182 0 95 (dk_at dksX3_word_2 0 rfl rfl)
theorem dX3_word_50 : decode cX3_word 50 = .ok (.athrow, 1) := dk_191 (dk_at dksX3_word_2 3 rfl rfl)
abbrev cX3_wrong : ByteArray := prog_17_method_7_code
def yX3_wrong : MethodName := ⟨RX3, "wrong", "()LAskedNames$Fault;"⟩
def dkwX3_wrong_0 : List UInt8 := [187, 0, 84, 89, 4, 42, 180, 0, 29, 183, 0, 86, 176]
abbrev dktX3_wrong_0 : List UInt8 := dkwX3_wrong_0 ++ []
theorem dksX3_wrong_0 : cX3_wrong.data.toList.drop 0 = dktX3_wrong_0 := by decide +kernel
theorem dX3_wrong_0 : decode cX3_wrong 0 = .ok (.new 84, 3) := dk_187 0 84 (dk_at dksX3_wrong_0 0 rfl rfl)
theorem dX3_wrong_3 : decode cX3_wrong 3 = .ok (.dup, 1) := dk_89 (dk_at dksX3_wrong_0 3 rfl rfl)
theorem dX3_wrong_4 : decode cX3_wrong 4 = .ok (.iconst 1, 1) := dk_4 (dk_at dksX3_wrong_0 4 rfl rfl)
theorem dX3_wrong_5 : decode cX3_wrong 5 = .ok (.aload_n 0, 1) := dk_42 (dk_at dksX3_wrong_0 5 rfl rfl)
theorem dX3_wrong_6 : decode cX3_wrong 6 = .ok (.getfield 29, 3) := dk_180 0 29 (dk_at dksX3_wrong_0 6 rfl rfl)
theorem dX3_wrong_9 : decode cX3_wrong 9 = .ok (.invokespecial 86, 3) := dk_183 0 86 (dk_at dksX3_wrong_0 9 rfl rfl)
theorem dX3_wrong_12 : decode cX3_wrong 12 = .ok (.areturn, 1) := dk_176 (dk_at dksX3_wrong_0 12 rfl rfl)
abbrev cX3_also : ByteArray := prog_17_method_9_code
def yX3_also : MethodName := ⟨RX3, "also", "(II)V"⟩
def dkwX3_also_2 : List UInt8 := [183, 0, 86, 181, 0, 99, 177]
abbrev dktX3_also_2 : List UInt8 := dkwX3_also_2 ++ []
def dkwX3_also_1 : List UInt8 := [180, 0, 103, 160, 0, 27, 27, 42, 180, 0, 99, 180, 0, 104, 162, 0, 16, 42, 187, 0, 84, 89, 27, 28]
abbrev dktX3_also_1 : List UInt8 := dkwX3_also_1 ++ dktX3_also_2
def dkwX3_also_0 : List UInt8 := [42, 180, 0, 99, 198, 0, 36, 28, 42, 180, 0, 99, 180, 0, 103, 161, 0, 25, 28, 42, 180, 0, 99]
abbrev dktX3_also_0 : List UInt8 := dkwX3_also_0 ++ dktX3_also_1
theorem dksX3_also_0 : cX3_also.data.toList.drop 0 = dktX3_also_0 := by decide +kernel
theorem dksX3_also_1 : cX3_also.data.toList.drop 23 = dktX3_also_1 := dk_seg dksX3_also_0 23 rfl rfl
theorem dksX3_also_2 : cX3_also.data.toList.drop 47 = dktX3_also_2 := dk_seg dksX3_also_1 24 rfl rfl
theorem dX3_also_0 : decode cX3_also 0 = .ok (.aload_n 0, 1) := dk_42 (dk_at dksX3_also_0 0 rfl rfl)
theorem dX3_also_1 : decode cX3_also 1 = .ok (.getfield 99, 3) := dk_180 0 99 (dk_at dksX3_also_0 1 rfl rfl)
theorem dX3_also_4 : decode cX3_also 4 = .ok (.ifnull 36, 3) := dk_198 0 36 (dk_at dksX3_also_0 4 rfl rfl)
theorem dX3_also_7 : decode cX3_also 7 = .ok (.iload_n 2, 1) := dk_28 (dk_at dksX3_also_0 7 rfl rfl)
theorem dX3_also_8 : decode cX3_also 8 = .ok (.aload_n 0, 1) := dk_42 (dk_at dksX3_also_0 8 rfl rfl)
theorem dX3_also_9 : decode cX3_also 9 = .ok (.getfield 99, 3) := dk_180 0 99 (dk_at dksX3_also_0 9 rfl rfl)
theorem dX3_also_12 : decode cX3_also 12 = .ok (.getfield 103, 3) := dk_180 0 103 (dk_at dksX3_also_0 12 rfl rfl)
theorem dX3_also_15 : decode cX3_also 15 = .ok (.if_icmp .lt 25, 3) := dk_161 0 25 (dk_at dksX3_also_0 15 rfl rfl)
theorem dX3_also_18 : decode cX3_also 18 = .ok (.iload_n 2, 1) := dk_28 (dk_at dksX3_also_0 18 rfl rfl)
theorem dX3_also_19 : decode cX3_also 19 = .ok (.aload_n 0, 1) := dk_42 (dk_at dksX3_also_0 19 rfl rfl)
theorem dX3_also_20 : decode cX3_also 20 = .ok (.getfield 99, 3) := dk_180 0 99 (dk_at dksX3_also_0 20 rfl rfl)
theorem dX3_also_23 : decode cX3_also 23 = .ok (.getfield 103, 3) := dk_180 0 103 (dk_at dksX3_also_1 0 rfl rfl)
theorem dX3_also_26 : decode cX3_also 26 = .ok (.if_icmp .ne 27, 3) := dk_160 0 27 (dk_at dksX3_also_1 3 rfl rfl)
theorem dX3_also_29 : decode cX3_also 29 = .ok (.iload_n 1, 1) := dk_27 (dk_at dksX3_also_1 6 rfl rfl)
theorem dX3_also_30 : decode cX3_also 30 = .ok (.aload_n 0, 1) := dk_42 (dk_at dksX3_also_1 7 rfl rfl)
theorem dX3_also_31 : decode cX3_also 31 = .ok (.getfield 99, 3) := dk_180 0 99 (dk_at dksX3_also_1 8 rfl rfl)
theorem dX3_also_34 : decode cX3_also 34 = .ok (.getfield 104, 3) := dk_180 0 104 (dk_at dksX3_also_1 11 rfl rfl)
theorem dX3_also_37 : decode cX3_also 37 = .ok (.if_icmp .ge 16, 3) := dk_162 0 16 (dk_at dksX3_also_1 14 rfl rfl)
theorem dX3_also_40 : decode cX3_also 40 = .ok (.aload_n 0, 1) := dk_42 (dk_at dksX3_also_1 17 rfl rfl)
theorem dX3_also_41 : decode cX3_also 41 = .ok (.new 84, 3) := dk_187 0 84 (dk_at dksX3_also_1 18 rfl rfl)
theorem dX3_also_44 : decode cX3_also 44 = .ok (.dup, 1) := dk_89 (dk_at dksX3_also_1 21 rfl rfl)
theorem dX3_also_45 : decode cX3_also 45 = .ok (.iload_n 1, 1) := dk_27 (dk_at dksX3_also_1 22 rfl rfl)
theorem dX3_also_46 : decode cX3_also 46 = .ok (.iload_n 2, 1) := dk_28 (dk_at dksX3_also_1 23 rfl rfl)
theorem dX3_also_47 : decode cX3_also 47 = .ok (.invokespecial 86, 3) := dk_183 0 86 (dk_at dksX3_also_2 0 rfl rfl)
theorem dX3_also_50 : decode cX3_also 50 = .ok (.putfield 99, 3) := dk_181 0 99 (dk_at dksX3_also_2 3 rfl rfl)
theorem dX3_also_53 : decode cX3_also 53 = .ok (.return_, 1) := dk_177 (dk_at dksX3_also_2 6 rfl rfl)
abbrev cX3_number : ByteArray := prog_17_method_10_code
def yX3_number : MethodName := ⟨RX3, "number", "(II)I"⟩
def dkwX3_number_2 : List UInt8 := [21, 4, 153, 0, 7, 29, 167, 0, 4, 27, 172]
abbrev dktX3_number_2 : List UInt8 := dkwX3_number_2 ++ []
def dkwX3_number_1 : List UInt8 := [184, 0, 107, 54, 4, 21, 4, 154, 0, 12, 42, 5, 42, 180, 0, 29, 182, 0, 111, 42, 182, 0, 19]
abbrev dktX3_number_1 : List UInt8 := dkwX3_number_1 ++ dktX3_number_2
def dkwX3_number_0 : List UInt8 := [42, 180, 0, 38, 178, 0, 78, 165, 0, 8, 42, 182, 0, 95, 191, 42, 180, 0, 72, 62, 29, 27, 28]
abbrev dktX3_number_0 : List UInt8 := dkwX3_number_0 ++ dktX3_number_1
theorem dksX3_number_0 : cX3_number.data.toList.drop 0 = dktX3_number_0 := by decide +kernel
theorem dksX3_number_1 : cX3_number.data.toList.drop 23 = dktX3_number_1 := dk_seg dksX3_number_0 23 rfl rfl
theorem dksX3_number_2 : cX3_number.data.toList.drop 46 = dktX3_number_2 := dk_seg dksX3_number_1 23 rfl rfl
theorem dX3_number_0 : decode cX3_number 0 = .ok (.aload_n 0, 1) := dk_42 (dk_at dksX3_number_0 0 rfl rfl)
theorem dX3_number_1 : decode cX3_number 1 = .ok (.getfield 38, 3) := dk_180 0 38 (dk_at dksX3_number_0 1 rfl rfl)
theorem dX3_number_4 : decode cX3_number 4 = .ok (.getstatic 78, 3) := dk_178 0 78 (dk_at dksX3_number_0 4 rfl rfl)
theorem dX3_number_7 : decode cX3_number 7 = .ok (.if_acmp .eq 8, 3) := dk_165 0 8 (dk_at dksX3_number_0 7 rfl rfl)
theorem dX3_number_10 : decode cX3_number 10 = .ok (.aload_n 0, 1) := dk_42 (dk_at dksX3_number_0 10 rfl rfl)
theorem dX3_number_11 : decode cX3_number 11 = .ok (.invokevirtual 95, 3) := dk_182 0 95 (dk_at dksX3_number_0 11 rfl rfl)
theorem dX3_number_14 : decode cX3_number 14 = .ok (.athrow, 1) := dk_191 (dk_at dksX3_number_0 14 rfl rfl)
theorem dX3_number_15 : decode cX3_number 15 = .ok (.aload_n 0, 1) := dk_42 (dk_at dksX3_number_0 15 rfl rfl)
theorem dX3_number_16 : decode cX3_number 16 = .ok (.getfield 72, 3) := dk_180 0 72 (dk_at dksX3_number_0 16 rfl rfl)
theorem dX3_number_19 : decode cX3_number 19 = .ok (.istore_n 3, 1) := dk_62 (dk_at dksX3_number_0 19 rfl rfl)
theorem dX3_number_20 : decode cX3_number 20 = .ok (.iload_n 3, 1) := dk_29 (dk_at dksX3_number_0 20 rfl rfl)
theorem dX3_number_21 : decode cX3_number 21 = .ok (.iload_n 1, 1) := dk_27 (dk_at dksX3_number_0 21 rfl rfl)
theorem dX3_number_22 : decode cX3_number 22 = .ok (.iload_n 2, 1) := dk_28 (dk_at dksX3_number_0 22 rfl rfl)
theorem dX3_number_23 : decode cX3_number 23 = .ok (.invokestatic 107, 3) := dk_184 0 107 (dk_at dksX3_number_1 0 rfl rfl)
theorem dX3_number_26 : decode cX3_number 26 = .ok (.istore 4, 2) := dk_54 4 (dk_at dksX3_number_1 3 rfl rfl)
theorem dX3_number_28 : decode cX3_number 28 = .ok (.iload 4, 2) := dk_21 4 (dk_at dksX3_number_1 5 rfl rfl)
theorem dX3_number_30 : decode cX3_number 30 = .ok (.ifCond .ne 12, 3) := dk_154 0 12 (dk_at dksX3_number_1 7 rfl rfl)
theorem dX3_number_33 : decode cX3_number 33 = .ok (.aload_n 0, 1) := dk_42 (dk_at dksX3_number_1 10 rfl rfl)
theorem dX3_number_34 : decode cX3_number 34 = .ok (.iconst 2, 1) := dk_5 (dk_at dksX3_number_1 11 rfl rfl)
theorem dX3_number_35 : decode cX3_number 35 = .ok (.aload_n 0, 1) := dk_42 (dk_at dksX3_number_1 12 rfl rfl)
theorem dX3_number_36 : decode cX3_number 36 = .ok (.getfield 29, 3) := dk_180 0 29 (dk_at dksX3_number_1 13 rfl rfl)
theorem dX3_number_39 : decode cX3_number 39 = .ok (.invokevirtual 111, 3) := dk_182 0 111 (dk_at dksX3_number_1 16 rfl rfl)
theorem dX3_number_42 : decode cX3_number 42 = .ok (.aload_n 0, 1) := dk_42 (dk_at dksX3_number_1 19 rfl rfl)
theorem dX3_number_43 : decode cX3_number 43 = .ok (.invokevirtual 19, 3) := dk_182 0 19 (dk_at dksX3_number_1 20 rfl rfl)
theorem dX3_number_46 : decode cX3_number 46 = .ok (.iload 4, 2) := dk_21 4 (dk_at dksX3_number_2 0 rfl rfl)
theorem dX3_number_48 : decode cX3_number 48 = .ok (.ifCond .eq 7, 3) := dk_153 0 7 (dk_at dksX3_number_2 2 rfl rfl)
theorem dX3_number_51 : decode cX3_number 51 = .ok (.iload_n 3, 1) := dk_29 (dk_at dksX3_number_2 5 rfl rfl)
theorem dX3_number_52 : decode cX3_number 52 = .ok (.goto 4, 3) := dk_167 0 4 (dk_at dksX3_number_2 6 rfl rfl)
theorem dX3_number_55 : decode cX3_number 55 = .ok (.iload_n 1, 1) := dk_27 (dk_at dksX3_number_2 9 rfl rfl)
theorem dX3_number_56 : decode cX3_number 56 = .ok (.ireturn, 1) := dk_172 (dk_at dksX3_number_2 10 rfl rfl)
abbrev cX3_node : ByteArray := prog_17_method_12_code
def yX3_node : MethodName := ⟨RX3, "node", "()I"⟩
def dkwX3_node_0 : List UInt8 := [42, 3, 8, 182, 0, 114, 172]
abbrev dktX3_node_0 : List UInt8 := dkwX3_node_0 ++ []
theorem dksX3_node_0 : cX3_node.data.toList.drop 0 = dktX3_node_0 := by decide +kernel
theorem dX3_node_0 : decode cX3_node 0 = .ok (.aload_n 0, 1) := dk_42 (dk_at dksX3_node_0 0 rfl rfl)
theorem dX3_node_1 : decode cX3_node 1 = .ok (.iconst 0, 1) := dk_3 (dk_at dksX3_node_0 1 rfl rfl)
theorem dX3_node_2 : decode cX3_node 2 = .ok (.iconst 5, 1) := dk_8 (dk_at dksX3_node_0 2 rfl rfl)
theorem dX3_node_3 : decode cX3_node 3 = .ok (.invokevirtual 114, 3) := dk_182 0 114 (dk_at dksX3_node_0 3 rfl rfl)
theorem dX3_node_6 : decode cX3_node 6 = .ok (.ireturn, 1) := dk_172 (dk_at dksX3_node_0 6 rfl rfl)
abbrev cX3_other : ByteArray := prog_17_method_13_code
def yX3_other : MethodName := ⟨RX3, "other", "(I)I"⟩
def dkwX3_other_1 : List UInt8 := [182, 0, 111, 42, 182, 0, 118, 172]
abbrev dktX3_other_1 : List UInt8 := dkwX3_other_1 ++ []
def dkwX3_other_0 : List UInt8 := [42, 180, 0, 38, 178, 0, 78, 166, 0, 20, 42, 180, 0, 72, 27, 160, 0, 12, 42, 5, 42, 180, 0, 29]
abbrev dktX3_other_0 : List UInt8 := dkwX3_other_0 ++ dktX3_other_1
theorem dksX3_other_0 : cX3_other.data.toList.drop 0 = dktX3_other_0 := by decide +kernel
theorem dksX3_other_1 : cX3_other.data.toList.drop 24 = dktX3_other_1 := dk_seg dksX3_other_0 24 rfl rfl
theorem dX3_other_0 : decode cX3_other 0 = .ok (.aload_n 0, 1) := dk_42 (dk_at dksX3_other_0 0 rfl rfl)
theorem dX3_other_1 : decode cX3_other 1 = .ok (.getfield 38, 3) := dk_180 0 38 (dk_at dksX3_other_0 1 rfl rfl)
theorem dX3_other_4 : decode cX3_other 4 = .ok (.getstatic 78, 3) := dk_178 0 78 (dk_at dksX3_other_0 4 rfl rfl)
theorem dX3_other_7 : decode cX3_other 7 = .ok (.if_acmp .ne 20, 3) := dk_166 0 20 (dk_at dksX3_other_0 7 rfl rfl)
theorem dX3_other_10 : decode cX3_other 10 = .ok (.aload_n 0, 1) := dk_42 (dk_at dksX3_other_0 10 rfl rfl)
theorem dX3_other_11 : decode cX3_other 11 = .ok (.getfield 72, 3) := dk_180 0 72 (dk_at dksX3_other_0 11 rfl rfl)
theorem dX3_other_14 : decode cX3_other 14 = .ok (.iload_n 1, 1) := dk_27 (dk_at dksX3_other_0 14 rfl rfl)
theorem dX3_other_15 : decode cX3_other 15 = .ok (.if_icmp .ne 12, 3) := dk_160 0 12 (dk_at dksX3_other_0 15 rfl rfl)
theorem dX3_other_18 : decode cX3_other 18 = .ok (.aload_n 0, 1) := dk_42 (dk_at dksX3_other_0 18 rfl rfl)
theorem dX3_other_19 : decode cX3_other 19 = .ok (.iconst 2, 1) := dk_5 (dk_at dksX3_other_0 19 rfl rfl)
theorem dX3_other_20 : decode cX3_other 20 = .ok (.aload_n 0, 1) := dk_42 (dk_at dksX3_other_0 20 rfl rfl)
theorem dX3_other_21 : decode cX3_other 21 = .ok (.getfield 29, 3) := dk_180 0 29 (dk_at dksX3_other_0 21 rfl rfl)
theorem dX3_other_24 : decode cX3_other 24 = .ok (.invokevirtual 111, 3) := dk_182 0 111 (dk_at dksX3_other_1 0 rfl rfl)
theorem dX3_other_27 : decode cX3_other 27 = .ok (.aload_n 0, 1) := dk_42 (dk_at dksX3_other_1 3 rfl rfl)
theorem dX3_other_28 : decode cX3_other 28 = .ok (.invokevirtual 118, 3) := dk_182 0 118 (dk_at dksX3_other_1 4 rfl rfl)
theorem dX3_other_31 : decode cX3_other 31 = .ok (.ireturn, 1) := dk_172 (dk_at dksX3_other_1 7 rfl rfl)
abbrev cX3_told : ByteArray := prog_17_method_11_code
def yX3_told : MethodName := ⟨RX3, "told", "()Ljava/lang/String;"⟩
def dkwX3_told_1 : List UInt8 := [7, 164, 0, 12, 42, 5, 42, 180, 0, 29, 182, 0, 111, 42, 182, 0, 19, 43, 176]
abbrev dktX3_told_1 : List UInt8 := dkwX3_told_1 ++ []
def dkwX3_told_0 : List UInt8 := [42, 180, 0, 38, 178, 0, 66, 165, 0, 8, 42, 182, 0, 95, 191, 42, 180, 0, 62, 76, 43, 182, 0, 113]
abbrev dktX3_told_0 : List UInt8 := dkwX3_told_0 ++ dktX3_told_1
theorem dksX3_told_0 : cX3_told.data.toList.drop 0 = dktX3_told_0 := by decide +kernel
theorem dksX3_told_1 : cX3_told.data.toList.drop 24 = dktX3_told_1 := dk_seg dksX3_told_0 24 rfl rfl
theorem dX3_told_0 : decode cX3_told 0 = .ok (.aload_n 0, 1) := dk_42 (dk_at dksX3_told_0 0 rfl rfl)
theorem dX3_told_1 : decode cX3_told 1 = .ok (.getfield 38, 3) := dk_180 0 38 (dk_at dksX3_told_0 1 rfl rfl)
theorem dX3_told_4 : decode cX3_told 4 = .ok (.getstatic 66, 3) := dk_178 0 66 (dk_at dksX3_told_0 4 rfl rfl)
theorem dX3_told_7 : decode cX3_told 7 = .ok (.if_acmp .eq 8, 3) := dk_165 0 8 (dk_at dksX3_told_0 7 rfl rfl)
theorem dX3_told_10 : decode cX3_told 10 = .ok (.aload_n 0, 1) := dk_42 (dk_at dksX3_told_0 10 rfl rfl)
theorem dX3_told_11 : decode cX3_told 11 = .ok (.invokevirtual 95, 3) := dk_182 0 95 (dk_at dksX3_told_0 11 rfl rfl)
theorem dX3_told_14 : decode cX3_told 14 = .ok (.athrow, 1) := dk_191 (dk_at dksX3_told_0 14 rfl rfl)
theorem dX3_told_15 : decode cX3_told 15 = .ok (.aload_n 0, 1) := dk_42 (dk_at dksX3_told_0 15 rfl rfl)
theorem dX3_told_16 : decode cX3_told 16 = .ok (.getfield 62, 3) := dk_180 0 62 (dk_at dksX3_told_0 16 rfl rfl)
theorem dX3_told_19 : decode cX3_told 19 = .ok (.astore_n 1, 1) := dk_76 (dk_at dksX3_told_0 19 rfl rfl)
theorem dX3_told_20 : decode cX3_told 20 = .ok (.aload_n 1, 1) := dk_43 (dk_at dksX3_told_0 20 rfl rfl)
theorem dX3_told_21 : decode cX3_told 21 = .ok (.invokevirtual 113, 3) := dk_182 0 113 (dk_at dksX3_told_0 21 rfl rfl)
theorem dX3_told_24 : decode cX3_told 24 = .ok (.iconst 4, 1) := dk_7 (dk_at dksX3_told_1 0 rfl rfl)
theorem dX3_told_25 : decode cX3_told 25 = .ok (.if_icmp .le 12, 3) := dk_164 0 12 (dk_at dksX3_told_1 1 rfl rfl)
theorem dX3_told_28 : decode cX3_told 28 = .ok (.aload_n 0, 1) := dk_42 (dk_at dksX3_told_1 4 rfl rfl)
theorem dX3_told_29 : decode cX3_told 29 = .ok (.iconst 2, 1) := dk_5 (dk_at dksX3_told_1 5 rfl rfl)
theorem dX3_told_30 : decode cX3_told 30 = .ok (.aload_n 0, 1) := dk_42 (dk_at dksX3_told_1 6 rfl rfl)
theorem dX3_told_31 : decode cX3_told 31 = .ok (.getfield 29, 3) := dk_180 0 29 (dk_at dksX3_told_1 7 rfl rfl)
theorem dX3_told_34 : decode cX3_told 34 = .ok (.invokevirtual 111, 3) := dk_182 0 111 (dk_at dksX3_told_1 10 rfl rfl)
theorem dX3_told_37 : decode cX3_told 37 = .ok (.aload_n 0, 1) := dk_42 (dk_at dksX3_told_1 13 rfl rfl)
theorem dX3_told_38 : decode cX3_told 38 = .ok (.invokevirtual 19, 3) := dk_182 0 19 (dk_at dksX3_told_1 14 rfl rfl)
theorem dX3_told_41 : decode cX3_told 41 = .ok (.aload_n 1, 1) := dk_43 (dk_at dksX3_told_1 17 rfl rfl)
theorem dX3_told_42 : decode cX3_told 42 = .ok (.areturn, 1) := dk_176 (dk_at dksX3_told_1 18 rfl rfl)
abbrev cX3_atEnd : ByteArray := prog_17_method_15_code
def yX3_atEnd : MethodName := ⟨RX3, "atEnd", "()I"⟩
theorem dX3_atEnd_0 : decode cX3_atEnd 0 = .ok (.iconst 0, 1) := by decide +kernel
theorem dX3_atEnd_1 : decode cX3_atEnd 1 = .ok (.ireturn, 1) := by decide +kernel
theorem q132 : (Jvm.Cond.initialized "AskedNames$Reader") ∈ lw_all := lw_g (lw_at lw_m1 7 rfl) rfl
theorem q295 : (Jvm.Cond.instanceMethod ({ cls := "AskedNames$Reader", name := "<init>", desc := "([BI)V" } : Jvm.MethodName)) ∈ lw_all := lw_g (lw_at lw_m1 170 rfl) rfl
theorem q296 : (Jvm.Cond.code ({ cls := "AskedNames$Reader", name := "<init>", desc := "([BI)V" } : Jvm.MethodName) prog_17_method_1_code (3 : Nat) (Option.none : Option Jvm.ClassFile.FieldType)) ∈ lw_all := lw_g (lw_at lw_m1 171 rfl) rfl
theorem q297 : (Jvm.Cond.methodLink "AskedNames$Reader" (3 : Nat) ({ cls := "java/lang/Object", name := "<init>", desc := "()V" } : Jvm.MethodName)) ∈ lw_all := lw_g (lw_at lw_m1 172 rfl) rfl
theorem q298 : (Jvm.Cond.methodLink "AskedNames$Reader" (19 : Nat) ({ cls := "AskedNames$Reader", name := "step", desc := "()V" } : Jvm.MethodName)) ∈ lw_all := lw_g (lw_at lw_m1 173 rfl) rfl
theorem q299 : (Jvm.Cond.instanceMethod ({ cls := "AskedNames$Reader", name := "step", desc := "()V" } : Jvm.MethodName)) ∈ lw_all := lw_g (lw_at lw_m1 174 rfl) rfl
theorem q300 : (Jvm.Cond.sameMethod "AskedNames$Reader" "AskedNames$Reader" "step" "()V") ∈ lw_all := lw_g (lw_at lw_m1 175 rfl) rfl
theorem q304 : (Jvm.Cond.code ({ cls := "AskedNames$Reader", name := "step", desc := "()V" } : Jvm.MethodName) prog_17_method_5_code (3 : Nat) (Option.none : Option Jvm.ClassFile.FieldType)) ∈ lw_all := lw_g (lw_at lw_m1 179 rfl) rfl
theorem q305 : (Jvm.Cond.methodLink "AskedNames$Reader" (25 : Nat) ({ cls := "AskedNames$Reader", name := "at", desc := "(I)I" } : Jvm.MethodName)) ∈ lw_all := lw_g (lw_at lw_m1 180 rfl) rfl
theorem q306 : (Jvm.Cond.privateMethod ({ cls := "AskedNames$Reader", name := "at", desc := "(I)I" } : Jvm.MethodName)) ∈ lw_tbl := lw_at lw_m1 181 rfl
theorem q307 : (Jvm.Cond.instanceMethod ({ cls := "AskedNames$Reader", name := "at", desc := "(I)I" } : Jvm.MethodName)) ∈ lw_all := lw_g (lw_at lw_m1 182 rfl) rfl
theorem q308 : (Jvm.Cond.code ({ cls := "AskedNames$Reader", name := "at", desc := "(I)I" } : Jvm.MethodName) prog_17_method_2_code (2 : Nat) (Option.some Jvm.ClassFile.FieldType.int)) ∈ lw_all := lw_g (lw_at lw_m1 183 rfl) rfl
theorem q309 : (Jvm.Cond.fieldLink "AskedNames$Reader" (32 : Nat) "AskedNames$Token" "END" "LAskedNames$Token;") ∈ lw_all := lw_g (lw_at lw_m1 184 rfl) rfl
theorem q311 : (Jvm.Cond.methodLink "AskedNames$Reader" (41 : Nat) ({ cls := "AskedNames$Reader", name := "isLetter", desc := "(I)Z" } : Jvm.MethodName)) ∈ lw_all := lw_g (lw_at lw_m1 186 rfl) rfl
theorem q312 : (Jvm.Cond.static ({ cls := "AskedNames$Reader", name := "isLetter", desc := "(I)Z" } : Jvm.MethodName)) ∈ lw_all := lw_g (lw_at lw_m1 187 rfl) rfl
theorem q313 : (Jvm.Cond.code ({ cls := "AskedNames$Reader", name := "isLetter", desc := "(I)Z" } : Jvm.MethodName) prog_17_method_3_code (1 : Nat) (Option.some Jvm.ClassFile.FieldType.boolean)) ∈ lw_all := lw_g (lw_at lw_m1 188 rfl) rfl
theorem q314 : (Jvm.Cond.classLink "AskedNames$Reader" (45 : Nat) "java/lang/StringBuilder") ∈ lw_all := lw_g (lw_at lw_m1 189 rfl) rfl
theorem q316 : (Jvm.Cond.methodLink "AskedNames$Reader" (47 : Nat) ({ cls := "java/lang/StringBuilder", name := "<init>", desc := "(I)V" } : Jvm.MethodName)) ∈ lw_all := lw_g (lw_at lw_m1 191 rfl) rfl
theorem q345 : (Jvm.Cond.methodLink "AskedNames$Reader" (50 : Nat) ({ cls := "java/lang/StringBuilder", name := "length", desc := "()I" } : Jvm.MethodName)) ∈ lw_all := lw_g (lw_at lw_m1 220 rfl) rfl
theorem q352 : (Jvm.Cond.methodLink "AskedNames$Reader" (54 : Nat) ({ cls := "java/lang/StringBuilder", name := "append", desc := "(C)Ljava/lang/StringBuilder;" } : Jvm.MethodName)) ∈ lw_all := lw_g (lw_at lw_m1 227 rfl) rfl
theorem q447 : (Jvm.Cond.methodLink "AskedNames$Reader" (58 : Nat) ({ cls := "java/lang/StringBuilder", name := "toString", desc := "()Ljava/lang/String;" } : Jvm.MethodName)) ∈ lw_all := lw_g (lw_at lw_m2 82 rfl) rfl
theorem q501 : (Jvm.Cond.fieldLink "AskedNames$Reader" (66 : Nat) "AskedNames$Token" "WORD" "LAskedNames$Token;") ∈ lw_all := lw_g (lw_at lw_m2 136 rfl) rfl
theorem q503 : (Jvm.Cond.methodLink "AskedNames$Reader" (69 : Nat) ({ cls := "AskedNames$Reader", name := "isDigit", desc := "(I)Z" } : Jvm.MethodName)) ∈ lw_all := lw_g (lw_at lw_m2 138 rfl) rfl
theorem q504 : (Jvm.Cond.static ({ cls := "AskedNames$Reader", name := "isDigit", desc := "(I)Z" } : Jvm.MethodName)) ∈ lw_all := lw_g (lw_at lw_m2 139 rfl) rfl
theorem q505 : (Jvm.Cond.code ({ cls := "AskedNames$Reader", name := "isDigit", desc := "(I)Z" } : Jvm.MethodName) prog_17_method_4_code (1 : Nat) (Option.some Jvm.ClassFile.FieldType.boolean)) ∈ lw_all := lw_g (lw_at lw_m2 140 rfl) rfl
theorem q506 : (Jvm.Cond.fieldLink "AskedNames$Reader" (75 : Nat) "AskedNames$Token" "BAD" "LAskedNames$Token;") ∈ lw_all := lw_g (lw_at lw_m2 141 rfl) rfl
theorem q508 : (Jvm.Cond.fieldLink "AskedNames$Reader" (78 : Nat) "AskedNames$Token" "NUMBER" "LAskedNames$Token;") ∈ lw_all := lw_g (lw_at lw_m2 143 rfl) rfl
theorem q510 : (Jvm.Cond.fieldLink "AskedNames$Reader" (81 : Nat) "AskedNames$Token" "SIGN" "LAskedNames$Token;") ∈ lw_all := lw_g (lw_at lw_m2 145 rfl) rfl
theorem q574 : (Jvm.Cond.fieldLink "AskedNames$Reader" (9 : Nat) "AskedNames$Reader" "tape" "[B") ∈ lw_all := lw_g (lw_at lw_m2 209 rfl) rfl
theorem q575 : (Jvm.Cond.fieldLink "AskedNames$Reader" (15 : Nat) "AskedNames$Reader" "size" "I") ∈ lw_all := lw_g (lw_at lw_m2 210 rfl) rfl
theorem q576 : (Jvm.Cond.fieldLink "AskedNames$Reader" (22 : Nat) "AskedNames$Reader" "next" "I") ∈ lw_all := lw_g (lw_at lw_m2 211 rfl) rfl
theorem q577 : (Jvm.Cond.fieldLink "AskedNames$Reader" (29 : Nat) "AskedNames$Reader" "place" "I") ∈ lw_all := lw_g (lw_at lw_m2 212 rfl) rfl
theorem q578 : (Jvm.Cond.fieldLink "AskedNames$Reader" (72 : Nat) "AskedNames$Reader" "value" "I") ∈ lw_all := lw_g (lw_at lw_m2 213 rfl) rfl
theorem q579 : (Jvm.Cond.fieldLink "AskedNames$Reader" (38 : Nat) "AskedNames$Reader" "token" "LAskedNames$Token;") ∈ lw_all := lw_g (lw_at lw_m2 214 rfl) rfl
theorem q580 : (Jvm.Cond.fieldLink "AskedNames$Reader" (62 : Nat) "AskedNames$Reader" "text" "Ljava/lang/String;") ∈ lw_all := lw_g (lw_at lw_m2 215 rfl) rfl
theorem q581 : (Jvm.Cond.fieldLink "AskedNames$Reader" (99 : Nat) "AskedNames$Reader" "also" "LAskedNames$Fault;") ∈ lw_all := lw_g (lw_at lw_m2 216 rfl) rfl
theorem q587 : (Jvm.Cond.soleField "AskedNames$Reader" "tape") ∈ lw_all := lw_g (lw_at lw_m2 222 rfl) rfl
theorem q589 : (Jvm.Cond.soleField "AskedNames$Reader" "size") ∈ lw_all := lw_g (lw_at lw_m2 224 rfl) rfl
theorem q591 : (Jvm.Cond.soleField "AskedNames$Reader" "next") ∈ lw_all := lw_g (lw_at lw_m2 226 rfl) rfl
theorem q593 : (Jvm.Cond.soleField "AskedNames$Reader" "place") ∈ lw_all := lw_g (lw_at lw_m2 228 rfl) rfl
theorem q595 : (Jvm.Cond.soleField "AskedNames$Reader" "value") ∈ lw_all := lw_g (lw_at lw_m2 230 rfl) rfl
theorem q597 : (Jvm.Cond.soleField "AskedNames$Reader" "token") ∈ lw_all := lw_g (lw_at lw_m2 232 rfl) rfl
theorem q599 : (Jvm.Cond.soleField "AskedNames$Reader" "text") ∈ lw_all := lw_g (lw_at lw_m2 234 rfl) rfl
theorem q601 : (Jvm.Cond.soleField "AskedNames$Reader" "also") ∈ lw_all := lw_g (lw_at lw_m2 236 rfl) rfl
theorem q609 : (Jvm.Cond.declares ({ cls := "AskedNames$Reader", name := "lines", desc := "()V" } : Jvm.MethodName)) ∈ lw_tbl := lw_at lw_m3 4 rfl
theorem q611 : (Jvm.Cond.instanceMethod ({ cls := "AskedNames$Reader", name := "lines", desc := "()V" } : Jvm.MethodName)) ∈ lw_all := lw_g (lw_at lw_m3 6 rfl) rfl
theorem q612 : (Jvm.Cond.code ({ cls := "AskedNames$Reader", name := "lines", desc := "()V" } : Jvm.MethodName) prog_17_method_16_code (1 : Nat) (Option.none : Option Jvm.ClassFile.FieldType)) ∈ lw_all := lw_g (lw_at lw_m3 7 rfl) rfl
theorem q613 : (Jvm.Cond.methodLink "AskedNames$Reader" (121 : Nat) ({ cls := "AskedNames$Reader", name := "line", desc := "()V" } : Jvm.MethodName)) ∈ lw_all := lw_g (lw_at lw_m3 8 rfl) rfl
theorem q614 : (Jvm.Cond.declares ({ cls := "AskedNames$Reader", name := "line", desc := "()V" } : Jvm.MethodName)) ∈ lw_tbl := lw_at lw_m3 9 rfl
theorem q615 : (Jvm.Cond.sameMethod "AskedNames$Reader" "AskedNames$Reader" "line" "()V") ∈ lw_all := lw_g (lw_at lw_m3 10 rfl) rfl
theorem q621 : (Jvm.Cond.declares ({ cls := "AskedNames$Reader", name := "here", desc := "()I" } : Jvm.MethodName)) ∈ lw_tbl := lw_at lw_m3 16 rfl
theorem q623 : (Jvm.Cond.instanceMethod ({ cls := "AskedNames$Reader", name := "here", desc := "()I" } : Jvm.MethodName)) ∈ lw_all := lw_g (lw_at lw_m3 18 rfl) rfl
theorem q624 : (Jvm.Cond.code ({ cls := "AskedNames$Reader", name := "here", desc := "()I" } : Jvm.MethodName) prog_17_method_6_code (1 : Nat) (Option.some Jvm.ClassFile.FieldType.int)) ∈ lw_all := lw_g (lw_at lw_m3 19 rfl) rfl
theorem q629 : (Jvm.Cond.declares ({ cls := "AskedNames$Reader", name := "word", desc := "([Ljava/lang/String;)I" } : Jvm.MethodName)) ∈ lw_tbl := lw_at lw_m3 24 rfl
theorem q631 : (Jvm.Cond.instanceMethod ({ cls := "AskedNames$Reader", name := "word", desc := "([Ljava/lang/String;)I" } : Jvm.MethodName)) ∈ lw_all := lw_g (lw_at lw_m3 26 rfl) rfl
theorem q632 : (Jvm.Cond.code ({ cls := "AskedNames$Reader", name := "word", desc := "([Ljava/lang/String;)I" } : Jvm.MethodName) prog_17_method_8_code (3 : Nat) (Option.some Jvm.ClassFile.FieldType.int)) ∈ lw_all := lw_g (lw_at lw_m3 27 rfl) rfl
theorem q633 : (Jvm.Cond.methodLink "AskedNames$Reader" (89 : Nat) ({ cls := "java/lang/String", name := "equals", desc := "(Ljava/lang/Object;)Z" } : Jvm.MethodName)) ∈ lw_all := lw_g (lw_at lw_m3 28 rfl) rfl
theorem q641 : (Jvm.Cond.methodLink "AskedNames$Reader" (95 : Nat) ({ cls := "AskedNames$Reader", name := "wrong", desc := "()LAskedNames$Fault;" } : Jvm.MethodName)) ∈ lw_all := lw_g (lw_at lw_m3 36 rfl) rfl
theorem q642 : (Jvm.Cond.instanceMethod ({ cls := "AskedNames$Reader", name := "wrong", desc := "()LAskedNames$Fault;" } : Jvm.MethodName)) ∈ lw_all := lw_g (lw_at lw_m3 37 rfl) rfl
theorem q643 : (Jvm.Cond.sameMethod "AskedNames$Reader" "AskedNames$Reader" "wrong" "()LAskedNames$Fault;") ∈ lw_all := lw_g (lw_at lw_m3 38 rfl) rfl
theorem q647 : (Jvm.Cond.code ({ cls := "AskedNames$Reader", name := "wrong", desc := "()LAskedNames$Fault;" } : Jvm.MethodName) prog_17_method_7_code (1 : Nat) (Option.some (Jvm.ClassFile.FieldType.object "AskedNames$Fault"))) ∈ lw_all := lw_g (lw_at lw_m3 42 rfl) rfl
theorem q648 : (Jvm.Cond.classLink "AskedNames$Reader" (84 : Nat) "AskedNames$Fault") ∈ lw_all := lw_g (lw_at lw_m3 43 rfl) rfl
theorem q688 : (Jvm.Cond.methodLink "AskedNames$Reader" (86 : Nat) ({ cls := "AskedNames$Fault", name := "<init>", desc := "(II)V" } : Jvm.MethodName)) ∈ lw_all := lw_g (lw_at lw_m3 83 rfl) rfl
theorem q696 : (Jvm.Cond.fieldLinkNest "AskedNames$Reader" (104 : Nat) "AskedNames$Fault" "kind" "I" "AskedNames") ∈ lw_tbl := lw_at lw_m3 91 rfl
theorem q699 : (Jvm.Cond.fieldLinkNest "AskedNames$Reader" (103 : Nat) "AskedNames$Fault" "place" "I" "AskedNames") ∈ lw_tbl := lw_at lw_m3 94 rfl
theorem q721 : (Jvm.Cond.declares ({ cls := "AskedNames$Reader", name := "also", desc := "(II)V" } : Jvm.MethodName)) ∈ lw_tbl := lw_at lw_m3 116 rfl
theorem q723 : (Jvm.Cond.instanceMethod ({ cls := "AskedNames$Reader", name := "also", desc := "(II)V" } : Jvm.MethodName)) ∈ lw_all := lw_g (lw_at lw_m3 118 rfl) rfl
theorem q724 : (Jvm.Cond.code ({ cls := "AskedNames$Reader", name := "also", desc := "(II)V" } : Jvm.MethodName) prog_17_method_9_code (3 : Nat) (Option.none : Option Jvm.ClassFile.FieldType)) ∈ lw_all := lw_g (lw_at lw_m3 119 rfl) rfl
theorem q727 : (Jvm.Cond.declares ({ cls := "AskedNames$Reader", name := "number", desc := "(II)I" } : Jvm.MethodName)) ∈ lw_tbl := lw_at lw_m3 122 rfl
theorem q729 : (Jvm.Cond.instanceMethod ({ cls := "AskedNames$Reader", name := "number", desc := "(II)I" } : Jvm.MethodName)) ∈ lw_all := lw_g (lw_at lw_m3 124 rfl) rfl
theorem q730 : (Jvm.Cond.code ({ cls := "AskedNames$Reader", name := "number", desc := "(II)I" } : Jvm.MethodName) prog_17_method_10_code (5 : Nat) (Option.some Jvm.ClassFile.FieldType.int)) ∈ lw_all := lw_g (lw_at lw_m3 125 rfl) rfl
theorem q731 : (Jvm.Cond.methodLinkNest "AskedNames$Reader" (107 : Nat) ({ cls := "AskedNames", name := "isIn", desc := "(III)Z" } : Jvm.MethodName) "AskedNames") ∈ lw_tbl := lw_at lw_m3 126 rfl
theorem q732 : (Jvm.Cond.methodLink "AskedNames$Reader" (111 : Nat) ({ cls := "AskedNames$Reader", name := "also", desc := "(II)V" } : Jvm.MethodName)) ∈ lw_all := lw_g (lw_at lw_m3 127 rfl) rfl
theorem q811 : (Jvm.Cond.instanceMethod ({ cls := "AskedNames$Reader", name := "node", desc := "()I" } : Jvm.MethodName)) ∈ lw_all := lw_g (lw_at lw_m3 206 rfl) rfl
theorem q812 : (Jvm.Cond.code ({ cls := "AskedNames$Reader", name := "node", desc := "()I" } : Jvm.MethodName) prog_17_method_12_code (1 : Nat) (Option.some Jvm.ClassFile.FieldType.int)) ∈ lw_all := lw_g (lw_at lw_m3 207 rfl) rfl
theorem q813 : (Jvm.Cond.methodLink "AskedNames$Reader" (114 : Nat) ({ cls := "AskedNames$Reader", name := "number", desc := "(II)I" } : Jvm.MethodName)) ∈ lw_all := lw_g (lw_at lw_m3 208 rfl) rfl
theorem q817 : (Jvm.Cond.declares ({ cls := "AskedNames$Reader", name := "other", desc := "(I)I" } : Jvm.MethodName)) ∈ lw_tbl := lw_at lw_m3 212 rfl
theorem q819 : (Jvm.Cond.instanceMethod ({ cls := "AskedNames$Reader", name := "other", desc := "(I)I" } : Jvm.MethodName)) ∈ lw_all := lw_g (lw_at lw_m3 214 rfl) rfl
theorem q820 : (Jvm.Cond.code ({ cls := "AskedNames$Reader", name := "other", desc := "(I)I" } : Jvm.MethodName) prog_17_method_13_code (2 : Nat) (Option.some Jvm.ClassFile.FieldType.int)) ∈ lw_all := lw_g (lw_at lw_m3 215 rfl) rfl
theorem q821 : (Jvm.Cond.methodLink "AskedNames$Reader" (118 : Nat) ({ cls := "AskedNames$Reader", name := "node", desc := "()I" } : Jvm.MethodName)) ∈ lw_all := lw_g (lw_at lw_m3 216 rfl) rfl
theorem q837 : (Jvm.Cond.declares ({ cls := "AskedNames$Reader", name := "told", desc := "()Ljava/lang/String;" } : Jvm.MethodName)) ∈ lw_tbl := lw_at lw_m3 232 rfl
theorem q839 : (Jvm.Cond.instanceMethod ({ cls := "AskedNames$Reader", name := "told", desc := "()Ljava/lang/String;" } : Jvm.MethodName)) ∈ lw_all := lw_g (lw_at lw_m3 234 rfl) rfl
theorem q840 : (Jvm.Cond.code ({ cls := "AskedNames$Reader", name := "told", desc := "()Ljava/lang/String;" } : Jvm.MethodName) prog_17_method_11_code (2 : Nat) (Option.some (Jvm.ClassFile.FieldType.object "java/lang/String"))) ∈ lw_all := lw_g (lw_at lw_m3 235 rfl) rfl
theorem q841 : (Jvm.Cond.methodLink "AskedNames$Reader" (113 : Nat) ({ cls := "java/lang/String", name := "length", desc := "()I" } : Jvm.MethodName)) ∈ lw_all := lw_g (lw_at lw_m3 236 rfl) rfl
theorem q905 : (Jvm.Cond.declares ({ cls := "AskedNames$Reader", name := "node", desc := "()I" } : Jvm.MethodName)) ∈ lw_tbl := lw_at lw_m4 60 rfl
theorem q945 : (Jvm.Cond.methodLink "AskedNames$Reader" (124 : Nat) ({ cls := "AskedNames$Reader", name := "atEnd", desc := "()I" } : Jvm.MethodName)) ∈ lw_all := lw_g (lw_at lw_m4 100 rfl) rfl
theorem q946 : (Jvm.Cond.instanceMethod ({ cls := "AskedNames$Reader", name := "atEnd", desc := "()I" } : Jvm.MethodName)) ∈ lw_all := lw_g (lw_at lw_m4 101 rfl) rfl
theorem q947 : (Jvm.Cond.sameMethod "AskedNames$Reader" "AskedNames$Reader" "atEnd" "()I") ∈ lw_all := lw_g (lw_at lw_m4 102 rfl) rfl
theorem q953 : (Jvm.Cond.code ({ cls := "AskedNames$Reader", name := "atEnd", desc := "()I" } : Jvm.MethodName) prog_17_method_15_code (1 : Nat) (Option.some Jvm.ClassFile.FieldType.int)) ∈ lw_all := lw_g (lw_at lw_m4 108 rfl) rfl
theorem q2948 : (Jvm.Cond.sameMethod "AskedNames$Reader" "AskedNames$Reader" "at" "(I)I") ∈ lw_all := lw_g (lw_at lw_m12 183 rfl) rfl
theorem q2956 : (Jvm.Cond.sameMethod "AskedNames$Reader" "AskedNames$Reader" "also" "(II)V") ∈ lw_all := lw_g (lw_at lw_m12 191 rfl) rfl
theorem q2960 : (Jvm.Cond.sameMethod "AskedNames$Reader" "AskedNames$Reader" "node" "()I") ∈ lw_all := lw_g (lw_at lw_m12 195 rfl) rfl
theorem q2961 : (Jvm.Cond.sameMethod "AskedNames$Reader" "AskedNames$Reader" "number" "(II)I") ∈ lw_all := lw_g (lw_at lw_m12 196 rfl) rfl

/-! AskedNames$NetReader -/
set_option maxRecDepth 100000
def RX4 : String := "AskedNames$NetReader"
def TX4 : u_T := fun k => match k with
  | 0 => ("AskedNames$Reader", "tape", "[B", true)
  | 1 => ("AskedNames$Reader", "size", "I", true)
  | 2 => ("AskedNames$Reader", "next", "I", false)
  | 3 => ("AskedNames$Reader", "place", "I", false)
  | 4 => ("AskedNames$Reader", "value", "I", false)
  | 5 => ("AskedNames$Reader", "token", "LAskedNames$Token;", false)
  | 6 => ("AskedNames$Reader", "text", "Ljava/lang/String;", false)
  | 7 => ("AskedNames$Reader", "also", "LAskedNames$Fault;", false)
  | 8 => ("AskedNames$NetReader", "net", "LAskedNames$Net;", true)
  | _ => ("AskedNames$NetReader", "far", "I", false)
def tyX4 : Nat → FieldType := fun k => match k with
  | 0 => .array .byte
  | 1 => .int
  | 2 => .int
  | 3 => .int
  | 4 => .int
  | 5 => .object "AskedNames$Token"
  | 6 => .object "java/lang/String"
  | 7 => .object "AskedNames$Fault"
  | 8 => .object "AskedNames$Net"
  | _ => .int
abbrev wsX40 : List Cond := u_ws RX4 TX4 10
theorem nmX4 : ∀ a, a < 10 → ∀ b, b < 10 → a ≠ b → (TX4 a).2.1 ≠ (TX4 b).2.1 := by decide +kernel
theorem tyX4_ok : ∀ k, k < 10 → parseFieldDescriptor (TX4 k).2.2.1 = some (tyX4 k) := by decide +kernel
abbrev cX4_init : ByteArray := prog_14_method_1_code
def yX4_init : MethodName := ⟨RX4, "<init>", "([BI)V"⟩
def dkwX4_init_0 : List UInt8 := [42, 43, 28, 183, 0, 3, 42, 187, 0, 9, 89, 183, 0, 11, 181, 0, 14, 42, 2, 181, 0, 20, 177]
abbrev dktX4_init_0 : List UInt8 := dkwX4_init_0 ++ []
theorem dksX4_init_0 : cX4_init.data.toList.drop 0 = dktX4_init_0 := by decide +kernel
theorem dX4_init_0 : decode cX4_init 0 = .ok (.aload_n 0, 1) := dk_42 (dk_at dksX4_init_0 0 rfl rfl)
theorem dX4_init_1 : decode cX4_init 1 = .ok (.aload_n 1, 1) := dk_43 (dk_at dksX4_init_0 1 rfl rfl)
theorem dX4_init_2 : decode cX4_init 2 = .ok (.iload_n 2, 1) := dk_28 (dk_at dksX4_init_0 2 rfl rfl)
theorem dX4_init_3 : decode cX4_init 3 = .ok (.invokespecial 3, 3) := dk_183 0 3 (dk_at dksX4_init_0 3 rfl rfl)
theorem dX4_init_6 : decode cX4_init 6 = .ok (.aload_n 0, 1) := dk_42 (dk_at dksX4_init_0 6 rfl rfl)
theorem dX4_init_7 : decode cX4_init 7 = .ok (.new 9, 3) := dk_187 0 9 (dk_at dksX4_init_0 7 rfl rfl)
theorem dX4_init_10 : decode cX4_init 10 = .ok (.dup, 1) := dk_89 (dk_at dksX4_init_0 10 rfl rfl)
theorem dX4_init_11 : decode cX4_init 11 = .ok (.invokespecial 11, 3) := dk_183 0 11 (dk_at dksX4_init_0 11 rfl rfl)
theorem dX4_init_14 : decode cX4_init 14 = .ok (.putfield 14, 3) := dk_181 0 14 (dk_at dksX4_init_0 14 rfl rfl)
theorem dX4_init_17 : decode cX4_init 17 = .ok (.aload_n 0, 1) := dk_42 (dk_at dksX4_init_0 17 rfl rfl)
theorem dX4_init_18 : decode cX4_init 18 = .ok (.iconst (-1), 1) := dk_2 (dk_at dksX4_init_0 18 rfl rfl)
theorem dX4_init_19 : decode cX4_init 19 = .ok (.putfield 20, 3) := dk_181 0 20 (dk_at dksX4_init_0 19 rfl rfl)
theorem dX4_init_22 : decode cX4_init 22 = .ok (.return_, 1) := dk_177 (dk_at dksX4_init_0 22 rfl rfl)
abbrev cX4_read : ByteArray := prog_14_method_2_code
def yX4_read : MethodName := ⟨RX4, "read", "()LAskedNames$Net;"⟩
def dkwX4_read_0 : List UInt8 := [42, 182, 0, 24, 42, 180, 0, 14, 176]
abbrev dktX4_read_0 : List UInt8 := dkwX4_read_0 ++ []
theorem dksX4_read_0 : cX4_read.data.toList.drop 0 = dktX4_read_0 := by decide +kernel
theorem dX4_read_0 : decode cX4_read 0 = .ok (.aload_n 0, 1) := dk_42 (dk_at dksX4_read_0 0 rfl rfl)
theorem dX4_read_1 : decode cX4_read 1 = .ok (.invokevirtual 24, 3) := dk_182 0 24 (dk_at dksX4_read_0 1 rfl rfl)
theorem dX4_read_4 : decode cX4_read 4 = .ok (.aload_n 0, 1) := dk_42 (dk_at dksX4_read_0 4 rfl rfl)
theorem dX4_read_5 : decode cX4_read 5 = .ok (.getfield 14, 3) := dk_180 0 14 (dk_at dksX4_read_0 5 rfl rfl)
theorem dX4_read_8 : decode cX4_read 8 = .ok (.areturn, 1) := dk_176 (dk_at dksX4_read_0 8 rfl rfl)
abbrev cX4_line : ByteArray := prog_14_method_5_code
def yX4_line : MethodName := ⟨RX4, "line", "()V"⟩
def dkwX4_line_11 : List UInt8 := [182, 0, 51, 183, 0, 89, 182, 0, 92, 87, 167, 0, 3, 177]
abbrev dktX4_line_11 : List UInt8 := dkwX4_line_11 ++ []
def dkwX4_line_10 : List UInt8 := [182, 0, 83, 78, 42, 180, 0, 14, 180, 0, 96, 187, 0, 87, 89, 28, 45, 2, 42, 3, 16, 99]
abbrev dktX4_line_10 : List UInt8 := dkwX4_line_10 ++ dktX4_line_11
def dkwX4_line_9 : List UInt8 := [180, 0, 96, 182, 0, 74, 16, 6, 161, 0, 9, 42, 6, 27, 182, 0, 79, 42, 182, 0, 57, 61, 42]
abbrev dktX4_line_9 : List UInt8 := dkwX4_line_9 ++ dktX4_line_10
def dkwX4_line_8 : List UInt8 := [21, 4, 42, 3, 16, 99, 182, 0, 51, 183, 0, 89, 182, 0, 92, 87, 167, 0, 65, 42, 180, 0, 14]
abbrev dktX4_line_8 : List UInt8 := dkwX4_line_8 ++ dktX4_line_9
def dkwX4_line_7 : List UInt8 := [182, 0, 83, 78, 42, 28, 182, 0, 62, 54, 4, 42, 180, 0, 14, 180, 0, 70, 187, 0, 87, 89, 28, 45]
abbrev dktX4_line_7 : List UInt8 := dkwX4_line_7 ++ dktX4_line_8
def dkwX4_line_6 : List UInt8 := [180, 0, 70, 182, 0, 74, 16, 12, 161, 0, 9, 42, 6, 27, 182, 0, 79, 42, 182, 0, 57, 61, 42]
abbrev dktX4_line_6 : List UInt8 := dkwX4_line_6 ++ dktX4_line_7
def dkwX4_line_5 : List UInt8 := [180, 0, 14, 28, 29, 42, 4, 16, 9, 182, 0, 51, 182, 0, 66, 167, 0, 135, 42, 180, 0, 14]
abbrev dktX4_line_5 : List UInt8 := dkwX4_line_5 ++ dktX4_line_6
def dkwX4_line_4 : List UInt8 := [42, 3, 7, 182, 0, 51, 79, 167, 0, 165, 42, 182, 0, 57, 61, 42, 28, 182, 0, 62, 62, 42]
abbrev dktX4_line_4 : List UInt8 := dkwX4_line_4 ++ dktX4_line_5
def dkwX4_line_3 : List UInt8 := [16, 99, 182, 0, 51, 181, 0, 54, 167, 0, 188, 42, 182, 0, 57, 61, 42, 180, 0, 14, 180, 0, 58, 28]
abbrev dktX4_line_3 : List UInt8 := dkwX4_line_3 ++ dktX4_line_4
def dkwX4_line_2 : List UInt8 := [42, 180, 0, 14, 42, 4, 16, 6, 182, 0, 51, 181, 0, 27, 167, 0, 205, 42, 180, 0, 14, 42, 4]
abbrev dktX4_line_2 : List UInt8 := dkwX4_line_2 ++ dktX4_line_3
def dkwX4_line_1 : List UInt8 := [170, 0, 0, 0, 0, 0, 0, 193, 0, 0, 0, 0, 0, 0, 0, 4, 0, 0, 0, 36, 0, 0, 0, 53, 0, 0, 0, 70, 0, 0, 0, 93, 0, 0, 0, 123]
abbrev dktX4_line_1 : List UInt8 := dkwX4_line_1 ++ dktX4_line_2
def dkwX4_line_0 : List UInt8 := [42, 182, 0, 40, 60, 42, 178, 0, 43, 182, 0, 47]
abbrev dktX4_line_0 : List UInt8 := dkwX4_line_0 ++ dktX4_line_1
theorem dksX4_line_0 : cX4_line.data.toList.drop 0 = dktX4_line_0 := by decide +kernel
theorem dksX4_line_1 : cX4_line.data.toList.drop 12 = dktX4_line_1 := dk_seg dksX4_line_0 12 rfl rfl
theorem dksX4_line_2 : cX4_line.data.toList.drop 48 = dktX4_line_2 := dk_seg dksX4_line_1 36 rfl rfl
theorem dksX4_line_3 : cX4_line.data.toList.drop 71 = dktX4_line_3 := dk_seg dksX4_line_2 23 rfl rfl
theorem dksX4_line_4 : cX4_line.data.toList.drop 95 = dktX4_line_4 := dk_seg dksX4_line_3 24 rfl rfl
theorem dksX4_line_5 : cX4_line.data.toList.drop 117 = dktX4_line_5 := dk_seg dksX4_line_4 22 rfl rfl
theorem dksX4_line_6 : cX4_line.data.toList.drop 139 = dktX4_line_6 := dk_seg dksX4_line_5 22 rfl rfl
theorem dksX4_line_7 : cX4_line.data.toList.drop 162 = dktX4_line_7 := dk_seg dksX4_line_6 23 rfl rfl
theorem dksX4_line_8 : cX4_line.data.toList.drop 186 = dktX4_line_8 := dk_seg dksX4_line_7 24 rfl rfl
theorem dksX4_line_9 : cX4_line.data.toList.drop 209 = dktX4_line_9 := dk_seg dksX4_line_8 23 rfl rfl
theorem dksX4_line_10 : cX4_line.data.toList.drop 232 = dktX4_line_10 := dk_seg dksX4_line_9 23 rfl rfl
theorem dksX4_line_11 : cX4_line.data.toList.drop 254 = dktX4_line_11 := dk_seg dksX4_line_10 22 rfl rfl
theorem dX4_line_0 : decode cX4_line 0 = .ok (.aload_n 0, 1) := dk_42 (dk_at dksX4_line_0 0 rfl rfl)
theorem dX4_line_1 : decode cX4_line 1 = .ok (.invokevirtual 40, 3) := dk_182 0 40 (dk_at dksX4_line_0 1 rfl rfl)
theorem dX4_line_4 : decode cX4_line 4 = .ok (.istore_n 1, 1) := dk_60 (dk_at dksX4_line_0 4 rfl rfl)
theorem dX4_line_5 : decode cX4_line 5 = .ok (.aload_n 0, 1) := dk_42 (dk_at dksX4_line_0 5 rfl rfl)
theorem dX4_line_6 : decode cX4_line 6 = .ok (.getstatic 43, 3) := dk_178 0 43 (dk_at dksX4_line_0 6 rfl rfl)
theorem dX4_line_9 : decode cX4_line 9 = .ok (.invokevirtual 47, 3) := dk_182 0 47 (dk_at dksX4_line_0 9 rfl rfl)
theorem dX4_line_12 : decode cX4_line 12 = .ok (.tableswitch 193 0 4 #[36, 53, 70, 93, 123], 36) := by decide +kernel
theorem dX4_line_48 : decode cX4_line 48 = .ok (.aload_n 0, 1) := dk_42 (dk_at dksX4_line_2 0 rfl rfl)
theorem dX4_line_49 : decode cX4_line 49 = .ok (.getfield 14, 3) := dk_180 0 14 (dk_at dksX4_line_2 1 rfl rfl)
theorem dX4_line_52 : decode cX4_line 52 = .ok (.aload_n 0, 1) := dk_42 (dk_at dksX4_line_2 4 rfl rfl)
theorem dX4_line_53 : decode cX4_line 53 = .ok (.iconst 1, 1) := dk_4 (dk_at dksX4_line_2 5 rfl rfl)
theorem dX4_line_54 : decode cX4_line 54 = .ok (.bipush 6, 2) := dk_16 6 (dk_at dksX4_line_2 6 rfl rfl)
theorem dX4_line_56 : decode cX4_line 56 = .ok (.invokevirtual 51, 3) := dk_182 0 51 (dk_at dksX4_line_2 8 rfl rfl)
theorem dX4_line_59 : decode cX4_line 59 = .ok (.putfield 27, 3) := dk_181 0 27 (dk_at dksX4_line_2 11 rfl rfl)
theorem dX4_line_62 : decode cX4_line 62 = .ok (.goto 205, 3) := dk_167 0 205 (dk_at dksX4_line_2 14 rfl rfl)
theorem dX4_line_65 : decode cX4_line 65 = .ok (.aload_n 0, 1) := dk_42 (dk_at dksX4_line_2 17 rfl rfl)
theorem dX4_line_66 : decode cX4_line 66 = .ok (.getfield 14, 3) := dk_180 0 14 (dk_at dksX4_line_2 18 rfl rfl)
theorem dX4_line_69 : decode cX4_line 69 = .ok (.aload_n 0, 1) := dk_42 (dk_at dksX4_line_2 21 rfl rfl)
theorem dX4_line_70 : decode cX4_line 70 = .ok (.iconst 1, 1) := dk_4 (dk_at dksX4_line_2 22 rfl rfl)
theorem dX4_line_71 : decode cX4_line 71 = .ok (.bipush 99, 2) := dk_16 99 (dk_at dksX4_line_3 0 rfl rfl)
theorem dX4_line_73 : decode cX4_line 73 = .ok (.invokevirtual 51, 3) := dk_182 0 51 (dk_at dksX4_line_3 2 rfl rfl)
theorem dX4_line_76 : decode cX4_line 76 = .ok (.putfield 54, 3) := dk_181 0 54 (dk_at dksX4_line_3 5 rfl rfl)
theorem dX4_line_79 : decode cX4_line 79 = .ok (.goto 188, 3) := dk_167 0 188 (dk_at dksX4_line_3 8 rfl rfl)
theorem dX4_line_82 : decode cX4_line 82 = .ok (.aload_n 0, 1) := dk_42 (dk_at dksX4_line_3 11 rfl rfl)
theorem dX4_line_83 : decode cX4_line 83 = .ok (.invokevirtual 57, 3) := dk_182 0 57 (dk_at dksX4_line_3 12 rfl rfl)
theorem dX4_line_86 : decode cX4_line 86 = .ok (.istore_n 2, 1) := dk_61 (dk_at dksX4_line_3 15 rfl rfl)
theorem dX4_line_87 : decode cX4_line 87 = .ok (.aload_n 0, 1) := dk_42 (dk_at dksX4_line_3 16 rfl rfl)
theorem dX4_line_88 : decode cX4_line 88 = .ok (.getfield 14, 3) := dk_180 0 14 (dk_at dksX4_line_3 17 rfl rfl)
theorem dX4_line_91 : decode cX4_line 91 = .ok (.getfield 58, 3) := dk_180 0 58 (dk_at dksX4_line_3 20 rfl rfl)
theorem dX4_line_94 : decode cX4_line 94 = .ok (.iload_n 2, 1) := dk_28 (dk_at dksX4_line_3 23 rfl rfl)
theorem dX4_line_95 : decode cX4_line 95 = .ok (.aload_n 0, 1) := dk_42 (dk_at dksX4_line_4 0 rfl rfl)
theorem dX4_line_96 : decode cX4_line 96 = .ok (.iconst 0, 1) := dk_3 (dk_at dksX4_line_4 1 rfl rfl)
theorem dX4_line_97 : decode cX4_line 97 = .ok (.iconst 4, 1) := dk_7 (dk_at dksX4_line_4 2 rfl rfl)
theorem dX4_line_98 : decode cX4_line 98 = .ok (.invokevirtual 51, 3) := dk_182 0 51 (dk_at dksX4_line_4 3 rfl rfl)
theorem dX4_line_101 : decode cX4_line 101 = .ok (.iastore, 1) := dk_79 (dk_at dksX4_line_4 6 rfl rfl)
theorem dX4_line_102 : decode cX4_line 102 = .ok (.goto 165, 3) := dk_167 0 165 (dk_at dksX4_line_4 7 rfl rfl)
theorem dX4_line_105 : decode cX4_line 105 = .ok (.aload_n 0, 1) := dk_42 (dk_at dksX4_line_4 10 rfl rfl)
theorem dX4_line_106 : decode cX4_line 106 = .ok (.invokevirtual 57, 3) := dk_182 0 57 (dk_at dksX4_line_4 11 rfl rfl)
theorem dX4_line_109 : decode cX4_line 109 = .ok (.istore_n 2, 1) := dk_61 (dk_at dksX4_line_4 14 rfl rfl)
theorem dX4_line_110 : decode cX4_line 110 = .ok (.aload_n 0, 1) := dk_42 (dk_at dksX4_line_4 15 rfl rfl)
theorem dX4_line_111 : decode cX4_line 111 = .ok (.iload_n 2, 1) := dk_28 (dk_at dksX4_line_4 16 rfl rfl)
theorem dX4_line_112 : decode cX4_line 112 = .ok (.invokevirtual 62, 3) := dk_182 0 62 (dk_at dksX4_line_4 17 rfl rfl)
theorem dX4_line_115 : decode cX4_line 115 = .ok (.istore_n 3, 1) := dk_62 (dk_at dksX4_line_4 20 rfl rfl)
theorem dX4_line_116 : decode cX4_line 116 = .ok (.aload_n 0, 1) := dk_42 (dk_at dksX4_line_4 21 rfl rfl)
theorem dX4_line_117 : decode cX4_line 117 = .ok (.getfield 14, 3) := dk_180 0 14 (dk_at dksX4_line_5 0 rfl rfl)
theorem dX4_line_120 : decode cX4_line 120 = .ok (.iload_n 2, 1) := dk_28 (dk_at dksX4_line_5 3 rfl rfl)
theorem dX4_line_121 : decode cX4_line 121 = .ok (.iload_n 3, 1) := dk_29 (dk_at dksX4_line_5 4 rfl rfl)
theorem dX4_line_122 : decode cX4_line 122 = .ok (.aload_n 0, 1) := dk_42 (dk_at dksX4_line_5 5 rfl rfl)
theorem dX4_line_123 : decode cX4_line 123 = .ok (.iconst 1, 1) := dk_4 (dk_at dksX4_line_5 6 rfl rfl)
theorem dX4_line_124 : decode cX4_line 124 = .ok (.bipush 9, 2) := dk_16 9 (dk_at dksX4_line_5 7 rfl rfl)
theorem dX4_line_126 : decode cX4_line 126 = .ok (.invokevirtual 51, 3) := dk_182 0 51 (dk_at dksX4_line_5 9 rfl rfl)
theorem dX4_line_129 : decode cX4_line 129 = .ok (.invokevirtual 66, 3) := dk_182 0 66 (dk_at dksX4_line_5 12 rfl rfl)
theorem dX4_line_132 : decode cX4_line 132 = .ok (.goto 135, 3) := dk_167 0 135 (dk_at dksX4_line_5 15 rfl rfl)
theorem dX4_line_135 : decode cX4_line 135 = .ok (.aload_n 0, 1) := dk_42 (dk_at dksX4_line_5 18 rfl rfl)
theorem dX4_line_136 : decode cX4_line 136 = .ok (.getfield 14, 3) := dk_180 0 14 (dk_at dksX4_line_5 19 rfl rfl)
theorem dX4_line_139 : decode cX4_line 139 = .ok (.getfield 70, 3) := dk_180 0 70 (dk_at dksX4_line_6 0 rfl rfl)
theorem dX4_line_142 : decode cX4_line 142 = .ok (.invokevirtual 74, 3) := dk_182 0 74 (dk_at dksX4_line_6 3 rfl rfl)
theorem dX4_line_145 : decode cX4_line 145 = .ok (.bipush 12, 2) := dk_16 12 (dk_at dksX4_line_6 6 rfl rfl)
theorem dX4_line_147 : decode cX4_line 147 = .ok (.if_icmp .lt 9, 3) := dk_161 0 9 (dk_at dksX4_line_6 8 rfl rfl)
theorem dX4_line_150 : decode cX4_line 150 = .ok (.aload_n 0, 1) := dk_42 (dk_at dksX4_line_6 11 rfl rfl)
theorem dX4_line_151 : decode cX4_line 151 = .ok (.iconst 3, 1) := dk_6 (dk_at dksX4_line_6 12 rfl rfl)
theorem dX4_line_152 : decode cX4_line 152 = .ok (.iload_n 1, 1) := dk_27 (dk_at dksX4_line_6 13 rfl rfl)
theorem dX4_line_153 : decode cX4_line 153 = .ok (.invokevirtual 79, 3) := dk_182 0 79 (dk_at dksX4_line_6 14 rfl rfl)
theorem dX4_line_156 : decode cX4_line 156 = .ok (.aload_n 0, 1) := dk_42 (dk_at dksX4_line_6 17 rfl rfl)
theorem dX4_line_157 : decode cX4_line 157 = .ok (.invokevirtual 57, 3) := dk_182 0 57 (dk_at dksX4_line_6 18 rfl rfl)
theorem dX4_line_160 : decode cX4_line 160 = .ok (.istore_n 2, 1) := dk_61 (dk_at dksX4_line_6 21 rfl rfl)
theorem dX4_line_161 : decode cX4_line 161 = .ok (.aload_n 0, 1) := dk_42 (dk_at dksX4_line_6 22 rfl rfl)
theorem dX4_line_162 : decode cX4_line 162 = .ok (.invokevirtual 83, 3) := dk_182 0 83 (dk_at dksX4_line_7 0 rfl rfl)
theorem dX4_line_165 : decode cX4_line 165 = .ok (.astore_n 3, 1) := dk_78 (dk_at dksX4_line_7 3 rfl rfl)
theorem dX4_line_166 : decode cX4_line 166 = .ok (.aload_n 0, 1) := dk_42 (dk_at dksX4_line_7 4 rfl rfl)
theorem dX4_line_167 : decode cX4_line 167 = .ok (.iload_n 2, 1) := dk_28 (dk_at dksX4_line_7 5 rfl rfl)
theorem dX4_line_168 : decode cX4_line 168 = .ok (.invokevirtual 62, 3) := dk_182 0 62 (dk_at dksX4_line_7 6 rfl rfl)
theorem dX4_line_171 : decode cX4_line 171 = .ok (.istore 4, 2) := dk_54 4 (dk_at dksX4_line_7 9 rfl rfl)
theorem dX4_line_173 : decode cX4_line 173 = .ok (.aload_n 0, 1) := dk_42 (dk_at dksX4_line_7 11 rfl rfl)
theorem dX4_line_174 : decode cX4_line 174 = .ok (.getfield 14, 3) := dk_180 0 14 (dk_at dksX4_line_7 12 rfl rfl)
theorem dX4_line_177 : decode cX4_line 177 = .ok (.getfield 70, 3) := dk_180 0 70 (dk_at dksX4_line_7 15 rfl rfl)
theorem dX4_line_180 : decode cX4_line 180 = .ok (.new 87, 3) := dk_187 0 87 (dk_at dksX4_line_7 18 rfl rfl)
theorem dX4_line_183 : decode cX4_line 183 = .ok (.dup, 1) := dk_89 (dk_at dksX4_line_7 21 rfl rfl)
theorem dX4_line_184 : decode cX4_line 184 = .ok (.iload_n 2, 1) := dk_28 (dk_at dksX4_line_7 22 rfl rfl)
theorem dX4_line_185 : decode cX4_line 185 = .ok (.aload_n 3, 1) := dk_45 (dk_at dksX4_line_7 23 rfl rfl)
theorem dX4_line_186 : decode cX4_line 186 = .ok (.iload 4, 2) := dk_21 4 (dk_at dksX4_line_8 0 rfl rfl)
theorem dX4_line_188 : decode cX4_line 188 = .ok (.aload_n 0, 1) := dk_42 (dk_at dksX4_line_8 2 rfl rfl)
theorem dX4_line_189 : decode cX4_line 189 = .ok (.iconst 0, 1) := dk_3 (dk_at dksX4_line_8 3 rfl rfl)
theorem dX4_line_190 : decode cX4_line 190 = .ok (.bipush 99, 2) := dk_16 99 (dk_at dksX4_line_8 4 rfl rfl)
theorem dX4_line_192 : decode cX4_line 192 = .ok (.invokevirtual 51, 3) := dk_182 0 51 (dk_at dksX4_line_8 6 rfl rfl)
theorem dX4_line_195 : decode cX4_line 195 = .ok (.invokespecial 89, 3) := dk_183 0 89 (dk_at dksX4_line_8 9 rfl rfl)
theorem dX4_line_198 : decode cX4_line 198 = .ok (.invokevirtual 92, 3) := dk_182 0 92 (dk_at dksX4_line_8 12 rfl rfl)
theorem dX4_line_201 : decode cX4_line 201 = .ok (.pop, 1) := dk_87 (dk_at dksX4_line_8 15 rfl rfl)
theorem dX4_line_202 : decode cX4_line 202 = .ok (.goto 65, 3) := dk_167 0 65 (dk_at dksX4_line_8 16 rfl rfl)
theorem dX4_line_205 : decode cX4_line 205 = .ok (.aload_n 0, 1) := dk_42 (dk_at dksX4_line_8 19 rfl rfl)
theorem dX4_line_206 : decode cX4_line 206 = .ok (.getfield 14, 3) := dk_180 0 14 (dk_at dksX4_line_8 20 rfl rfl)
theorem dX4_line_209 : decode cX4_line 209 = .ok (.getfield 96, 3) := dk_180 0 96 (dk_at dksX4_line_9 0 rfl rfl)
theorem dX4_line_212 : decode cX4_line 212 = .ok (.invokevirtual 74, 3) := dk_182 0 74 (dk_at dksX4_line_9 3 rfl rfl)
theorem dX4_line_215 : decode cX4_line 215 = .ok (.bipush 6, 2) := dk_16 6 (dk_at dksX4_line_9 6 rfl rfl)
theorem dX4_line_217 : decode cX4_line 217 = .ok (.if_icmp .lt 9, 3) := dk_161 0 9 (dk_at dksX4_line_9 8 rfl rfl)
theorem dX4_line_220 : decode cX4_line 220 = .ok (.aload_n 0, 1) := dk_42 (dk_at dksX4_line_9 11 rfl rfl)
theorem dX4_line_221 : decode cX4_line 221 = .ok (.iconst 3, 1) := dk_6 (dk_at dksX4_line_9 12 rfl rfl)
theorem dX4_line_222 : decode cX4_line 222 = .ok (.iload_n 1, 1) := dk_27 (dk_at dksX4_line_9 13 rfl rfl)
theorem dX4_line_223 : decode cX4_line 223 = .ok (.invokevirtual 79, 3) := dk_182 0 79 (dk_at dksX4_line_9 14 rfl rfl)
theorem dX4_line_226 : decode cX4_line 226 = .ok (.aload_n 0, 1) := dk_42 (dk_at dksX4_line_9 17 rfl rfl)
theorem dX4_line_227 : decode cX4_line 227 = .ok (.invokevirtual 57, 3) := dk_182 0 57 (dk_at dksX4_line_9 18 rfl rfl)
theorem dX4_line_230 : decode cX4_line 230 = .ok (.istore_n 2, 1) := dk_61 (dk_at dksX4_line_9 21 rfl rfl)
theorem dX4_line_231 : decode cX4_line 231 = .ok (.aload_n 0, 1) := dk_42 (dk_at dksX4_line_9 22 rfl rfl)
theorem dX4_line_232 : decode cX4_line 232 = .ok (.invokevirtual 83, 3) := dk_182 0 83 (dk_at dksX4_line_10 0 rfl rfl)
theorem dX4_line_235 : decode cX4_line 235 = .ok (.astore_n 3, 1) := dk_78 (dk_at dksX4_line_10 3 rfl rfl)
theorem dX4_line_236 : decode cX4_line 236 = .ok (.aload_n 0, 1) := dk_42 (dk_at dksX4_line_10 4 rfl rfl)
theorem dX4_line_237 : decode cX4_line 237 = .ok (.getfield 14, 3) := dk_180 0 14 (dk_at dksX4_line_10 5 rfl rfl)
theorem dX4_line_240 : decode cX4_line 240 = .ok (.getfield 96, 3) := dk_180 0 96 (dk_at dksX4_line_10 8 rfl rfl)
theorem dX4_line_243 : decode cX4_line 243 = .ok (.new 87, 3) := dk_187 0 87 (dk_at dksX4_line_10 11 rfl rfl)
theorem dX4_line_246 : decode cX4_line 246 = .ok (.dup, 1) := dk_89 (dk_at dksX4_line_10 14 rfl rfl)
theorem dX4_line_247 : decode cX4_line 247 = .ok (.iload_n 2, 1) := dk_28 (dk_at dksX4_line_10 15 rfl rfl)
theorem dX4_line_248 : decode cX4_line 248 = .ok (.aload_n 3, 1) := dk_45 (dk_at dksX4_line_10 16 rfl rfl)
theorem dX4_line_249 : decode cX4_line 249 = .ok (.iconst (-1), 1) := dk_2 (dk_at dksX4_line_10 17 rfl rfl)
theorem dX4_line_250 : decode cX4_line 250 = .ok (.aload_n 0, 1) := dk_42 (dk_at dksX4_line_10 18 rfl rfl)
theorem dX4_line_251 : decode cX4_line 251 = .ok (.iconst 0, 1) := dk_3 (dk_at dksX4_line_10 19 rfl rfl)
theorem dX4_line_252 : decode cX4_line 252 = .ok (.bipush 99, 2) := dk_16 99 (dk_at dksX4_line_10 20 rfl rfl)
theorem dX4_line_254 : decode cX4_line 254 = .ok (.invokevirtual 51, 3) := dk_182 0 51 (dk_at dksX4_line_11 0 rfl rfl)
theorem dX4_line_257 : decode cX4_line 257 = .ok (.invokespecial 89, 3) := dk_183 0 89 (dk_at dksX4_line_11 3 rfl rfl)
theorem dX4_line_260 : decode cX4_line 260 = .ok (.invokevirtual 92, 3) := dk_182 0 92 (dk_at dksX4_line_11 6 rfl rfl)
theorem dX4_line_263 : decode cX4_line 263 = .ok (.pop, 1) := dk_87 (dk_at dksX4_line_11 9 rfl rfl)
theorem dX4_line_264 : decode cX4_line 264 = .ok (.goto 3, 3) := dk_167 0 3 (dk_at dksX4_line_11 10 rfl rfl)
theorem dX4_line_267 : decode cX4_line 267 = .ok (.return_, 1) := dk_177 (dk_at dksX4_line_11 13 rfl rfl)
abbrev cX4_node : ByteArray := prog_14_method_4_code
def yX4_node : MethodName := ⟨RX4, "node", "()I"⟩
def dkwX4_node_0 : List UInt8 := [42, 183, 0, 30, 60, 42, 42, 180, 0, 20, 27, 184, 0, 34, 181, 0, 20, 27, 172]
abbrev dktX4_node_0 : List UInt8 := dkwX4_node_0 ++ []
theorem dksX4_node_0 : cX4_node.data.toList.drop 0 = dktX4_node_0 := by decide +kernel
theorem dX4_node_0 : decode cX4_node 0 = .ok (.aload_n 0, 1) := dk_42 (dk_at dksX4_node_0 0 rfl rfl)
theorem dX4_node_1 : decode cX4_node 1 = .ok (.invokespecial 30, 3) := dk_183 0 30 (dk_at dksX4_node_0 1 rfl rfl)
theorem dX4_node_4 : decode cX4_node 4 = .ok (.istore_n 1, 1) := dk_60 (dk_at dksX4_node_0 4 rfl rfl)
theorem dX4_node_5 : decode cX4_node 5 = .ok (.aload_n 0, 1) := dk_42 (dk_at dksX4_node_0 5 rfl rfl)
theorem dX4_node_6 : decode cX4_node 6 = .ok (.aload_n 0, 1) := dk_42 (dk_at dksX4_node_0 6 rfl rfl)
theorem dX4_node_7 : decode cX4_node 7 = .ok (.getfield 20, 3) := dk_180 0 20 (dk_at dksX4_node_0 7 rfl rfl)
theorem dX4_node_10 : decode cX4_node 10 = .ok (.iload_n 1, 1) := dk_27 (dk_at dksX4_node_0 10 rfl rfl)
theorem dX4_node_11 : decode cX4_node 11 = .ok (.invokestatic 34, 3) := dk_184 0 34 (dk_at dksX4_node_0 11 rfl rfl)
theorem dX4_node_14 : decode cX4_node 14 = .ok (.putfield 20, 3) := dk_181 0 20 (dk_at dksX4_node_0 14 rfl rfl)
theorem dX4_node_17 : decode cX4_node 17 = .ok (.iload_n 1, 1) := dk_27 (dk_at dksX4_node_0 17 rfl rfl)
theorem dX4_node_18 : decode cX4_node 18 = .ok (.ireturn, 1) := dk_172 (dk_at dksX4_node_0 18 rfl rfl)
abbrev cX4_atEnd : ByteArray := prog_14_method_3_code
def yX4_atEnd : MethodName := ⟨RX4, "atEnd", "()I"⟩
def dkwX4_atEnd_0 : List UInt8 := [42, 180, 0, 20, 42, 180, 0, 14, 180, 0, 27, 161, 0, 7, 7, 167, 0, 4, 3, 172]
abbrev dktX4_atEnd_0 : List UInt8 := dkwX4_atEnd_0 ++ []
theorem dksX4_atEnd_0 : cX4_atEnd.data.toList.drop 0 = dktX4_atEnd_0 := by decide +kernel
theorem dX4_atEnd_0 : decode cX4_atEnd 0 = .ok (.aload_n 0, 1) := dk_42 (dk_at dksX4_atEnd_0 0 rfl rfl)
theorem dX4_atEnd_1 : decode cX4_atEnd 1 = .ok (.getfield 20, 3) := dk_180 0 20 (dk_at dksX4_atEnd_0 1 rfl rfl)
theorem dX4_atEnd_4 : decode cX4_atEnd 4 = .ok (.aload_n 0, 1) := dk_42 (dk_at dksX4_atEnd_0 4 rfl rfl)
theorem dX4_atEnd_5 : decode cX4_atEnd 5 = .ok (.getfield 14, 3) := dk_180 0 14 (dk_at dksX4_atEnd_0 5 rfl rfl)
theorem dX4_atEnd_8 : decode cX4_atEnd 8 = .ok (.getfield 27, 3) := dk_180 0 27 (dk_at dksX4_atEnd_0 8 rfl rfl)
theorem dX4_atEnd_11 : decode cX4_atEnd 11 = .ok (.if_icmp .lt 7, 3) := dk_161 0 7 (dk_at dksX4_atEnd_0 11 rfl rfl)
theorem dX4_atEnd_14 : decode cX4_atEnd 14 = .ok (.iconst 4, 1) := dk_7 (dk_at dksX4_atEnd_0 14 rfl rfl)
theorem dX4_atEnd_15 : decode cX4_atEnd 15 = .ok (.goto 4, 3) := dk_167 0 4 (dk_at dksX4_atEnd_0 15 rfl rfl)
theorem dX4_atEnd_18 : decode cX4_atEnd 18 = .ok (.iconst 0, 1) := dk_3 (dk_at dksX4_atEnd_0 18 rfl rfl)
theorem dX4_atEnd_19 : decode cX4_atEnd 19 = .ok (.ireturn, 1) := dk_172 (dk_at dksX4_atEnd_0 19 rfl rfl)
theorem q133 : (Jvm.Cond.initialized "AskedNames$NetReader") ∈ lw_all := lw_g (lw_at lw_m1 8 rfl) rfl
theorem q290 : (Jvm.Cond.instantiable "AskedNames$NetReader" (10 : Nat)) ∈ lw_all := lw_g (lw_at lw_m1 165 rfl) rfl
theorem q292 : (Jvm.Cond.instanceMethod ({ cls := "AskedNames$NetReader", name := "<init>", desc := "([BI)V" } : Jvm.MethodName)) ∈ lw_all := lw_g (lw_at lw_m1 167 rfl) rfl
theorem q293 : (Jvm.Cond.code ({ cls := "AskedNames$NetReader", name := "<init>", desc := "([BI)V" } : Jvm.MethodName) prog_14_method_1_code (3 : Nat) (Option.none : Option Jvm.ClassFile.FieldType)) ∈ lw_all := lw_g (lw_at lw_m1 168 rfl) rfl
theorem q294 : (Jvm.Cond.methodLink "AskedNames$NetReader" (3 : Nat) ({ cls := "AskedNames$Reader", name := "<init>", desc := "([BI)V" } : Jvm.MethodName)) ∈ lw_all := lw_g (lw_at lw_m1 169 rfl) rfl
theorem q302 : (Jvm.Cond.selects "AskedNames$NetReader" ({ cls := "AskedNames$Reader", name := "step", desc := "()V" } : Jvm.MethodName) ({ cls := "AskedNames$Reader", name := "step", desc := "()V" } : Jvm.MethodName)) ∈ lw_all := lw_g (lw_at lw_m1 177 rfl) rfl
theorem q512 : (Jvm.Cond.classLink "AskedNames$NetReader" (9 : Nat) "AskedNames$Net") ∈ lw_all := lw_g (lw_at lw_m2 147 rfl) rfl
theorem q514 : (Jvm.Cond.methodLink "AskedNames$NetReader" (11 : Nat) ({ cls := "AskedNames$Net", name := "<init>", desc := "()V" } : Jvm.MethodName)) ∈ lw_all := lw_g (lw_at lw_m2 149 rfl) rfl
theorem q530 : (Jvm.Cond.fieldLinkNest "AskedNames$NetReader" (27 : Nat) "AskedNames$Net" "nodes" "I" "AskedNames") ∈ lw_tbl := lw_at lw_m2 165 rfl
theorem q534 : (Jvm.Cond.fieldLinkNest "AskedNames$NetReader" (54 : Nat) "AskedNames$Net" "life" "I" "AskedNames") ∈ lw_tbl := lw_at lw_m2 169 rfl
theorem q538 : (Jvm.Cond.fieldLinkNest "AskedNames$NetReader" (58 : Nat) "AskedNames$Net" "room" "[I" "AskedNames") ∈ lw_tbl := lw_at lw_m2 173 rfl
theorem q549 : (Jvm.Cond.fieldLinkNest "AskedNames$NetReader" (70 : Nat) "AskedNames$Net" "routes" "Ljava/util/ArrayList;" "AskedNames") ∈ lw_tbl := lw_at lw_m2 184 rfl
theorem q554 : (Jvm.Cond.fieldLinkNest "AskedNames$NetReader" (96 : Nat) "AskedNames$Net" "serves" "Ljava/util/ArrayList;" "AskedNames") ∈ lw_tbl := lw_at lw_m2 189 rfl
theorem q572 : (Jvm.Cond.fieldLink "AskedNames$NetReader" (14 : Nat) "AskedNames$NetReader" "net" "LAskedNames$Net;") ∈ lw_all := lw_g (lw_at lw_m2 207 rfl) rfl
theorem q573 : (Jvm.Cond.fieldLink "AskedNames$NetReader" (20 : Nat) "AskedNames$NetReader" "far" "I") ∈ lw_all := lw_g (lw_at lw_m2 208 rfl) rfl
theorem q582 : (Jvm.Cond.laysFinal "AskedNames$NetReader" "AskedNames$NetReader" "net" "LAskedNames$Net;") ∈ lw_all := lw_g (lw_at lw_m2 217 rfl) rfl
theorem q583 : (Jvm.Cond.soleField "AskedNames$NetReader" "net") ∈ lw_all := lw_g (lw_at lw_m2 218 rfl) rfl
theorem q584 : (Jvm.Cond.lays "AskedNames$NetReader" "AskedNames$NetReader" "far" "I") ∈ lw_all := lw_g (lw_at lw_m2 219 rfl) rfl
theorem q585 : (Jvm.Cond.soleField "AskedNames$NetReader" "far") ∈ lw_all := lw_g (lw_at lw_m2 220 rfl) rfl
theorem q586 : (Jvm.Cond.laysFinal "AskedNames$NetReader" "AskedNames$Reader" "tape" "[B") ∈ lw_all := lw_g (lw_at lw_m2 221 rfl) rfl
theorem q588 : (Jvm.Cond.laysFinal "AskedNames$NetReader" "AskedNames$Reader" "size" "I") ∈ lw_all := lw_g (lw_at lw_m2 223 rfl) rfl
theorem q590 : (Jvm.Cond.lays "AskedNames$NetReader" "AskedNames$Reader" "next" "I") ∈ lw_all := lw_g (lw_at lw_m2 225 rfl) rfl
theorem q592 : (Jvm.Cond.lays "AskedNames$NetReader" "AskedNames$Reader" "place" "I") ∈ lw_all := lw_g (lw_at lw_m2 227 rfl) rfl
theorem q594 : (Jvm.Cond.lays "AskedNames$NetReader" "AskedNames$Reader" "value" "I") ∈ lw_all := lw_g (lw_at lw_m2 229 rfl) rfl
theorem q596 : (Jvm.Cond.lays "AskedNames$NetReader" "AskedNames$Reader" "token" "LAskedNames$Token;") ∈ lw_all := lw_g (lw_at lw_m2 231 rfl) rfl
theorem q598 : (Jvm.Cond.lays "AskedNames$NetReader" "AskedNames$Reader" "text" "Ljava/lang/String;") ∈ lw_all := lw_g (lw_at lw_m2 233 rfl) rfl
theorem q600 : (Jvm.Cond.lays "AskedNames$NetReader" "AskedNames$Reader" "also" "LAskedNames$Fault;") ∈ lw_all := lw_g (lw_at lw_m2 235 rfl) rfl
theorem q602 : (Jvm.Cond.superclass "AskedNames$NetReader" "AskedNames$Reader") ∈ lw_all := lw_g (lw_at lw_m2 237 rfl) rfl
theorem q604 : (Jvm.Cond.instanceMethod ({ cls := "AskedNames$NetReader", name := "read", desc := "()LAskedNames$Net;" } : Jvm.MethodName)) ∈ lw_all := lw_g (lw_at lw_m2 239 rfl) rfl
theorem q605 : (Jvm.Cond.selects "AskedNames$NetReader" ({ cls := "AskedNames$NetReader", name := "read", desc := "()LAskedNames$Net;" } : Jvm.MethodName) ({ cls := "AskedNames$NetReader", name := "read", desc := "()LAskedNames$Net;" } : Jvm.MethodName)) ∈ lw_all := lw_g (lw_at lw_m3 0 rfl) rfl
theorem q606 : (Jvm.Cond.code ({ cls := "AskedNames$NetReader", name := "read", desc := "()LAskedNames$Net;" } : Jvm.MethodName) prog_14_method_2_code (1 : Nat) (Option.some (Jvm.ClassFile.FieldType.object "AskedNames$Net"))) ∈ lw_all := lw_g (lw_at lw_m3 1 rfl) rfl
theorem q607 : (Jvm.Cond.methodLink "AskedNames$NetReader" (24 : Nat) ({ cls := "AskedNames$NetReader", name := "lines", desc := "()V" } : Jvm.MethodName)) ∈ lw_all := lw_g (lw_at lw_m3 2 rfl) rfl
theorem q608 : (Jvm.Cond.sameMethod "AskedNames$NetReader" "AskedNames$Reader" "lines" "()V") ∈ lw_all := lw_g (lw_at lw_m3 3 rfl) rfl
theorem q610 : (Jvm.Cond.selects "AskedNames$NetReader" ({ cls := "AskedNames$NetReader", name := "lines", desc := "()V" } : Jvm.MethodName) ({ cls := "AskedNames$Reader", name := "lines", desc := "()V" } : Jvm.MethodName)) ∈ lw_all := lw_g (lw_at lw_m3 5 rfl) rfl
theorem q645 : (Jvm.Cond.selects "AskedNames$NetReader" ({ cls := "AskedNames$Reader", name := "wrong", desc := "()LAskedNames$Fault;" } : Jvm.MethodName) ({ cls := "AskedNames$Reader", name := "wrong", desc := "()LAskedNames$Fault;" } : Jvm.MethodName)) ∈ lw_all := lw_g (lw_at lw_m3 40 rfl) rfl
theorem q769 : (Jvm.Cond.selects "AskedNames$NetReader" ({ cls := "java/lang/Object", name := "getClass", desc := "()Ljava/lang/Class;" } : Jvm.MethodName) ({ cls := "java/lang/Object", name := "getClass", desc := "()Ljava/lang/Class;" } : Jvm.MethodName)) ∈ lw_all := lw_g (lw_at lw_m3 164 rfl) rfl
theorem q792 : (Jvm.Cond.selects "AskedNames$NetReader" ({ cls := "AskedNames$Reader", name := "line", desc := "()V" } : Jvm.MethodName) ({ cls := "AskedNames$NetReader", name := "line", desc := "()V" } : Jvm.MethodName)) ∈ lw_all := lw_g (lw_at lw_m3 187 rfl) rfl
theorem q793 : (Jvm.Cond.instanceMethod ({ cls := "AskedNames$NetReader", name := "line", desc := "()V" } : Jvm.MethodName)) ∈ lw_all := lw_g (lw_at lw_m3 188 rfl) rfl
theorem q794 : (Jvm.Cond.code ({ cls := "AskedNames$NetReader", name := "line", desc := "()V" } : Jvm.MethodName) prog_14_method_5_code (5 : Nat) (Option.none : Option Jvm.ClassFile.FieldType)) ∈ lw_all := lw_g (lw_at lw_m3 189 rfl) rfl
theorem q795 : (Jvm.Cond.methodLink "AskedNames$NetReader" (40 : Nat) ({ cls := "AskedNames$NetReader", name := "here", desc := "()I" } : Jvm.MethodName)) ∈ lw_all := lw_g (lw_at lw_m3 190 rfl) rfl
theorem q796 : (Jvm.Cond.sameMethod "AskedNames$NetReader" "AskedNames$Reader" "here" "()I") ∈ lw_all := lw_g (lw_at lw_m3 191 rfl) rfl
theorem q797 : (Jvm.Cond.selects "AskedNames$NetReader" ({ cls := "AskedNames$NetReader", name := "here", desc := "()I" } : Jvm.MethodName) ({ cls := "AskedNames$Reader", name := "here", desc := "()I" } : Jvm.MethodName)) ∈ lw_all := lw_g (lw_at lw_m3 192 rfl) rfl
theorem q798 : (Jvm.Cond.fieldLink "AskedNames$NetReader" (43 : Nat) "AskedNames$NetReader" "NAMES" "[Ljava/lang/String;") ∈ lw_all := lw_g (lw_at lw_m3 193 rfl) rfl
theorem q799 : (Jvm.Cond.laysStatic "AskedNames$NetReader" "NAMES" "[Ljava/lang/String;") ∈ lw_tbl := lw_at lw_m3 194 rfl
theorem q800 : (Jvm.Cond.methodLink "AskedNames$NetReader" (47 : Nat) ({ cls := "AskedNames$NetReader", name := "word", desc := "([Ljava/lang/String;)I" } : Jvm.MethodName)) ∈ lw_all := lw_g (lw_at lw_m3 195 rfl) rfl
theorem q801 : (Jvm.Cond.sameMethod "AskedNames$NetReader" "AskedNames$Reader" "word" "([Ljava/lang/String;)I") ∈ lw_all := lw_g (lw_at lw_m3 196 rfl) rfl
theorem q802 : (Jvm.Cond.selects "AskedNames$NetReader" ({ cls := "AskedNames$NetReader", name := "word", desc := "([Ljava/lang/String;)I" } : Jvm.MethodName) ({ cls := "AskedNames$Reader", name := "word", desc := "([Ljava/lang/String;)I" } : Jvm.MethodName)) ∈ lw_all := lw_g (lw_at lw_m3 197 rfl) rfl
theorem q803 : (Jvm.Cond.methodLink "AskedNames$NetReader" (51 : Nat) ({ cls := "AskedNames$NetReader", name := "number", desc := "(II)I" } : Jvm.MethodName)) ∈ lw_all := lw_g (lw_at lw_m3 198 rfl) rfl
theorem q804 : (Jvm.Cond.sameMethod "AskedNames$NetReader" "AskedNames$Reader" "number" "(II)I") ∈ lw_all := lw_g (lw_at lw_m3 199 rfl) rfl
theorem q805 : (Jvm.Cond.selects "AskedNames$NetReader" ({ cls := "AskedNames$NetReader", name := "number", desc := "(II)I" } : Jvm.MethodName) ({ cls := "AskedNames$Reader", name := "number", desc := "(II)I" } : Jvm.MethodName)) ∈ lw_all := lw_g (lw_at lw_m3 200 rfl) rfl
theorem q806 : (Jvm.Cond.methodLink "AskedNames$NetReader" (57 : Nat) ({ cls := "AskedNames$NetReader", name := "node", desc := "()I" } : Jvm.MethodName)) ∈ lw_all := lw_g (lw_at lw_m3 201 rfl) rfl
theorem q807 : (Jvm.Cond.instanceMethod ({ cls := "AskedNames$NetReader", name := "node", desc := "()I" } : Jvm.MethodName)) ∈ lw_all := lw_g (lw_at lw_m3 202 rfl) rfl
theorem q808 : (Jvm.Cond.selects "AskedNames$NetReader" ({ cls := "AskedNames$NetReader", name := "node", desc := "()I" } : Jvm.MethodName) ({ cls := "AskedNames$NetReader", name := "node", desc := "()I" } : Jvm.MethodName)) ∈ lw_all := lw_g (lw_at lw_m3 203 rfl) rfl
theorem q809 : (Jvm.Cond.code ({ cls := "AskedNames$NetReader", name := "node", desc := "()I" } : Jvm.MethodName) prog_14_method_4_code (2 : Nat) (Option.some Jvm.ClassFile.FieldType.int)) ∈ lw_all := lw_g (lw_at lw_m3 204 rfl) rfl
theorem q810 : (Jvm.Cond.methodLink "AskedNames$NetReader" (30 : Nat) ({ cls := "AskedNames$Reader", name := "node", desc := "()I" } : Jvm.MethodName)) ∈ lw_all := lw_g (lw_at lw_m3 205 rfl) rfl
theorem q814 : (Jvm.Cond.methodLink "AskedNames$NetReader" (34 : Nat) ({ cls := "java/lang/Math", name := "max", desc := "(II)I" } : Jvm.MethodName)) ∈ lw_all := lw_g (lw_at lw_m3 209 rfl) rfl
theorem q815 : (Jvm.Cond.methodLink "AskedNames$NetReader" (62 : Nat) ({ cls := "AskedNames$NetReader", name := "other", desc := "(I)I" } : Jvm.MethodName)) ∈ lw_all := lw_g (lw_at lw_m3 210 rfl) rfl
theorem q816 : (Jvm.Cond.sameMethod "AskedNames$NetReader" "AskedNames$Reader" "other" "(I)I") ∈ lw_all := lw_g (lw_at lw_m3 211 rfl) rfl
theorem q818 : (Jvm.Cond.selects "AskedNames$NetReader" ({ cls := "AskedNames$NetReader", name := "other", desc := "(I)I" } : Jvm.MethodName) ({ cls := "AskedNames$Reader", name := "other", desc := "(I)I" } : Jvm.MethodName)) ∈ lw_all := lw_g (lw_at lw_m3 213 rfl) rfl
theorem q822 : (Jvm.Cond.methodLink "AskedNames$NetReader" (66 : Nat) ({ cls := "AskedNames$Net", name := "links", desc := "(III)V" } : Jvm.MethodName)) ∈ lw_all := lw_g (lw_at lw_m3 217 rfl) rfl
theorem q831 : (Jvm.Cond.methodLink "AskedNames$NetReader" (74 : Nat) ({ cls := "java/util/ArrayList", name := "size", desc := "()I" } : Jvm.MethodName)) ∈ lw_all := lw_g (lw_at lw_m3 226 rfl) rfl
theorem q832 : (Jvm.Cond.methodLink "AskedNames$NetReader" (79 : Nat) ({ cls := "AskedNames$NetReader", name := "also", desc := "(II)V" } : Jvm.MethodName)) ∈ lw_all := lw_g (lw_at lw_m3 227 rfl) rfl
theorem q833 : (Jvm.Cond.sameMethod "AskedNames$NetReader" "AskedNames$Reader" "also" "(II)V") ∈ lw_all := lw_g (lw_at lw_m3 228 rfl) rfl
theorem q834 : (Jvm.Cond.selects "AskedNames$NetReader" ({ cls := "AskedNames$NetReader", name := "also", desc := "(II)V" } : Jvm.MethodName) ({ cls := "AskedNames$Reader", name := "also", desc := "(II)V" } : Jvm.MethodName)) ∈ lw_all := lw_g (lw_at lw_m3 229 rfl) rfl
theorem q835 : (Jvm.Cond.methodLink "AskedNames$NetReader" (83 : Nat) ({ cls := "AskedNames$NetReader", name := "told", desc := "()Ljava/lang/String;" } : Jvm.MethodName)) ∈ lw_all := lw_g (lw_at lw_m3 230 rfl) rfl
theorem q836 : (Jvm.Cond.sameMethod "AskedNames$NetReader" "AskedNames$Reader" "told" "()Ljava/lang/String;") ∈ lw_all := lw_g (lw_at lw_m3 231 rfl) rfl
theorem q838 : (Jvm.Cond.selects "AskedNames$NetReader" ({ cls := "AskedNames$NetReader", name := "told", desc := "()Ljava/lang/String;" } : Jvm.MethodName) ({ cls := "AskedNames$Reader", name := "told", desc := "()Ljava/lang/String;" } : Jvm.MethodName)) ∈ lw_all := lw_g (lw_at lw_m3 233 rfl) rfl
theorem q849 : (Jvm.Cond.classLink "AskedNames$NetReader" (87 : Nat) "AskedNames$Route") ∈ lw_all := lw_g (lw_at lw_m4 4 rfl) rfl
theorem q851 : (Jvm.Cond.methodLink "AskedNames$NetReader" (89 : Nat) ({ cls := "AskedNames$Route", name := "<init>", desc := "(ILjava/lang/String;II)V" } : Jvm.MethodName)) ∈ lw_all := lw_g (lw_at lw_m4 6 rfl) rfl
theorem q880 : (Jvm.Cond.methodLink "AskedNames$NetReader" (92 : Nat) ({ cls := "java/util/ArrayList", name := "add", desc := "(Ljava/lang/Object;)Z" } : Jvm.MethodName)) ∈ lw_all := lw_g (lw_at lw_m4 35 rfl) rfl
theorem q949 : (Jvm.Cond.selects "AskedNames$NetReader" ({ cls := "AskedNames$Reader", name := "atEnd", desc := "()I" } : Jvm.MethodName) ({ cls := "AskedNames$NetReader", name := "atEnd", desc := "()I" } : Jvm.MethodName)) ∈ lw_all := lw_g (lw_at lw_m4 104 rfl) rfl
theorem q950 : (Jvm.Cond.instanceMethod ({ cls := "AskedNames$NetReader", name := "atEnd", desc := "()I" } : Jvm.MethodName)) ∈ lw_all := lw_g (lw_at lw_m4 105 rfl) rfl
theorem q951 : (Jvm.Cond.code ({ cls := "AskedNames$NetReader", name := "atEnd", desc := "()I" } : Jvm.MethodName) prog_14_method_3_code (1 : Nat) (Option.some Jvm.ClassFile.FieldType.int)) ∈ lw_all := lw_g (lw_at lw_m4 106 rfl) rfl
theorem q2958 : (Jvm.Cond.selects "AskedNames$NetReader" ({ cls := "AskedNames$Reader", name := "also", desc := "(II)V" } : Jvm.MethodName) ({ cls := "AskedNames$Reader", name := "also", desc := "(II)V" } : Jvm.MethodName)) ∈ lw_all := lw_g (lw_at lw_m12 193 rfl) rfl
theorem q2963 : (Jvm.Cond.selects "AskedNames$NetReader" ({ cls := "AskedNames$Reader", name := "number", desc := "(II)I" } : Jvm.MethodName) ({ cls := "AskedNames$Reader", name := "number", desc := "(II)I" } : Jvm.MethodName)) ∈ lw_all := lw_g (lw_at lw_m12 198 rfl) rfl
theorem q2966 : (Jvm.Cond.selects "AskedNames$NetReader" ({ cls := "AskedNames$Reader", name := "node", desc := "()I" } : Jvm.MethodName) ({ cls := "AskedNames$NetReader", name := "node", desc := "()I" } : Jvm.MethodName)) ∈ lw_all := lw_g (lw_at lw_m12 201 rfl) rfl
theorem q2979 : (Jvm.Cond.castable "AskedNames$NetReader" "java/lang/Object") ∈ lw_tbl := lw_at lw_m12 214 rfl
theorem q3019 : (Jvm.Cond.stringRef "AskedNames$NetReader" (101 : Nat) "nodes") ∈ lw_tbl := lw_at lw_m13 14 rfl
theorem q3020 : (Jvm.Cond.stringRef "AskedNames$NetReader" (102 : Nat) "life") ∈ lw_tbl := lw_at lw_m13 15 rfl
theorem q3021 : (Jvm.Cond.stringRef "AskedNames$NetReader" (103 : Nat) "room") ∈ lw_tbl := lw_at lw_m13 16 rfl
theorem q3022 : (Jvm.Cond.stringRef "AskedNames$NetReader" (104 : Nat) "link") ∈ lw_tbl := lw_at lw_m13 17 rfl
theorem q3023 : (Jvm.Cond.stringRef "AskedNames$NetReader" (106 : Nat) "route") ∈ lw_tbl := lw_at lw_m13 18 rfl
theorem q3024 : (Jvm.Cond.stringRef "AskedNames$NetReader" (108 : Nat) "serve") ∈ lw_tbl := lw_at lw_m13 19 rfl
theorem in_X4 : ∀ w ∈ wsX40, w ∈ lw_all := lw_in wsX40 [586, 588, 590, 592, 594, 596, 598, 600, 582, 584] (by decide +kernel) (by decide +kernel)

/-! AskedNames$Net -/
set_option maxRecDepth 100000
def RX5 : String := "AskedNames$Net"
def TX5 : u_T := fun k => match k with
  | 0 => ("AskedNames$Net", "nodes", "I", false)
  | 1 => ("AskedNames$Net", "life", "I", false)
  | 2 => ("AskedNames$Net", "room", "[I", true)
  | 3 => ("AskedNames$Net", "delay", "[I", true)
  | 4 => ("AskedNames$Net", "links", "Ljava/util/ArrayList;", true)
  | 5 => ("AskedNames$Net", "routes", "Ljava/util/ArrayList;", true)
  | _ => ("AskedNames$Net", "serves", "Ljava/util/ArrayList;", true)
def tyX5 : Nat → FieldType := fun k => match k with
  | 0 => .int
  | 1 => .int
  | 2 => .array .int
  | 3 => .array .int
  | 4 => .object "java/util/ArrayList"
  | 5 => .object "java/util/ArrayList"
  | _ => .object "java/util/ArrayList"
abbrev wsX50 : List Cond := u_ws RX5 TX5 7
theorem nmX5 : ∀ a, a < 7 → ∀ b, b < 7 → a ≠ b → (TX5 a).2.1 ≠ (TX5 b).2.1 := by decide +kernel
theorem tyX5_ok : ∀ k, k < 7 → parseFieldDescriptor (TX5 k).2.2.1 = some (tyX5 k) := by decide +kernel
abbrev cX5_init : ByteArray := prog_13_method_1_code
def yX5_init : MethodName := ⟨RX5, "<init>", "()V"⟩
def dkwX5_init_3 : List UInt8 := [180, 0, 18, 5, 184, 0, 41, 177]
abbrev dktX5_init_3 : List UInt8 := dkwX5_init_3 ++ []
def dkwX5_init_2 : List UInt8 := [16, 12, 183, 0, 32, 181, 0, 35, 42, 187, 0, 25, 89, 16, 6, 183, 0, 32, 181, 0, 38, 42]
abbrev dktX5_init_2 : List UInt8 := dkwX5_init_2 ++ dktX5_init_3
def dkwX5_init_1 : List UInt8 := [16, 36, 188, 10, 181, 0, 22, 42, 187, 0, 25, 89, 183, 0, 27, 181, 0, 28, 42, 187, 0, 25, 89]
abbrev dktX5_init_1 : List UInt8 := dkwX5_init_1 ++ dktX5_init_2
def dkwX5_init_0 : List UInt8 := [42, 183, 0, 3, 42, 6, 181, 0, 9, 42, 16, 20, 181, 0, 15, 42, 16, 6, 188, 10, 181, 0, 18, 42]
abbrev dktX5_init_0 : List UInt8 := dkwX5_init_0 ++ dktX5_init_1
theorem dksX5_init_0 : cX5_init.data.toList.drop 0 = dktX5_init_0 := by decide +kernel
theorem dksX5_init_1 : cX5_init.data.toList.drop 24 = dktX5_init_1 := dk_seg dksX5_init_0 24 rfl rfl
theorem dksX5_init_2 : cX5_init.data.toList.drop 47 = dktX5_init_2 := dk_seg dksX5_init_1 23 rfl rfl
theorem dksX5_init_3 : cX5_init.data.toList.drop 69 = dktX5_init_3 := dk_seg dksX5_init_2 22 rfl rfl
theorem dX5_init_0 : decode cX5_init 0 = .ok (.aload_n 0, 1) := dk_42 (dk_at dksX5_init_0 0 rfl rfl)
theorem dX5_init_1 : decode cX5_init 1 = .ok (.invokespecial 3, 3) := dk_183 0 3 (dk_at dksX5_init_0 1 rfl rfl)
theorem dX5_init_4 : decode cX5_init 4 = .ok (.aload_n 0, 1) := dk_42 (dk_at dksX5_init_0 4 rfl rfl)
theorem dX5_init_5 : decode cX5_init 5 = .ok (.iconst 3, 1) := dk_6 (dk_at dksX5_init_0 5 rfl rfl)
theorem dX5_init_6 : decode cX5_init 6 = .ok (.putfield 9, 3) := dk_181 0 9 (dk_at dksX5_init_0 6 rfl rfl)
theorem dX5_init_9 : decode cX5_init 9 = .ok (.aload_n 0, 1) := dk_42 (dk_at dksX5_init_0 9 rfl rfl)
theorem dX5_init_10 : decode cX5_init 10 = .ok (.bipush 20, 2) := dk_16 20 (dk_at dksX5_init_0 10 rfl rfl)
theorem dX5_init_12 : decode cX5_init 12 = .ok (.putfield 15, 3) := dk_181 0 15 (dk_at dksX5_init_0 12 rfl rfl)
theorem dX5_init_15 : decode cX5_init 15 = .ok (.aload_n 0, 1) := dk_42 (dk_at dksX5_init_0 15 rfl rfl)
theorem dX5_init_16 : decode cX5_init 16 = .ok (.bipush 6, 2) := dk_16 6 (dk_at dksX5_init_0 16 rfl rfl)
theorem dX5_init_18 : decode cX5_init 18 = .ok (.newarray .int, 2) := dk_188_10 (dk_at dksX5_init_0 18 rfl rfl)
theorem dX5_init_20 : decode cX5_init 20 = .ok (.putfield 18, 3) := dk_181 0 18 (dk_at dksX5_init_0 20 rfl rfl)
theorem dX5_init_23 : decode cX5_init 23 = .ok (.aload_n 0, 1) := dk_42 (dk_at dksX5_init_0 23 rfl rfl)
theorem dX5_init_24 : decode cX5_init 24 = .ok (.bipush 36, 2) := dk_16 36 (dk_at dksX5_init_1 0 rfl rfl)
theorem dX5_init_26 : decode cX5_init 26 = .ok (.newarray .int, 2) := dk_188_10 (dk_at dksX5_init_1 2 rfl rfl)
theorem dX5_init_28 : decode cX5_init 28 = .ok (.putfield 22, 3) := dk_181 0 22 (dk_at dksX5_init_1 4 rfl rfl)
theorem dX5_init_31 : decode cX5_init 31 = .ok (.aload_n 0, 1) := dk_42 (dk_at dksX5_init_1 7 rfl rfl)
theorem dX5_init_32 : decode cX5_init 32 = .ok (.new 25, 3) := dk_187 0 25 (dk_at dksX5_init_1 8 rfl rfl)
theorem dX5_init_35 : decode cX5_init 35 = .ok (.dup, 1) := dk_89 (dk_at dksX5_init_1 11 rfl rfl)
theorem dX5_init_36 : decode cX5_init 36 = .ok (.invokespecial 27, 3) := dk_183 0 27 (dk_at dksX5_init_1 12 rfl rfl)
theorem dX5_init_39 : decode cX5_init 39 = .ok (.putfield 28, 3) := dk_181 0 28 (dk_at dksX5_init_1 15 rfl rfl)
theorem dX5_init_42 : decode cX5_init 42 = .ok (.aload_n 0, 1) := dk_42 (dk_at dksX5_init_1 18 rfl rfl)
theorem dX5_init_43 : decode cX5_init 43 = .ok (.new 25, 3) := dk_187 0 25 (dk_at dksX5_init_1 19 rfl rfl)
theorem dX5_init_46 : decode cX5_init 46 = .ok (.dup, 1) := dk_89 (dk_at dksX5_init_1 22 rfl rfl)
theorem dX5_init_47 : decode cX5_init 47 = .ok (.bipush 12, 2) := dk_16 12 (dk_at dksX5_init_2 0 rfl rfl)
theorem dX5_init_49 : decode cX5_init 49 = .ok (.invokespecial 32, 3) := dk_183 0 32 (dk_at dksX5_init_2 2 rfl rfl)
theorem dX5_init_52 : decode cX5_init 52 = .ok (.putfield 35, 3) := dk_181 0 35 (dk_at dksX5_init_2 5 rfl rfl)
theorem dX5_init_55 : decode cX5_init 55 = .ok (.aload_n 0, 1) := dk_42 (dk_at dksX5_init_2 8 rfl rfl)
theorem dX5_init_56 : decode cX5_init 56 = .ok (.new 25, 3) := dk_187 0 25 (dk_at dksX5_init_2 9 rfl rfl)
theorem dX5_init_59 : decode cX5_init 59 = .ok (.dup, 1) := dk_89 (dk_at dksX5_init_2 12 rfl rfl)
theorem dX5_init_60 : decode cX5_init 60 = .ok (.bipush 6, 2) := dk_16 6 (dk_at dksX5_init_2 13 rfl rfl)
theorem dX5_init_62 : decode cX5_init 62 = .ok (.invokespecial 32, 3) := dk_183 0 32 (dk_at dksX5_init_2 15 rfl rfl)
theorem dX5_init_65 : decode cX5_init 65 = .ok (.putfield 38, 3) := dk_181 0 38 (dk_at dksX5_init_2 18 rfl rfl)
theorem dX5_init_68 : decode cX5_init 68 = .ok (.aload_n 0, 1) := dk_42 (dk_at dksX5_init_2 21 rfl rfl)
theorem dX5_init_69 : decode cX5_init 69 = .ok (.getfield 18, 3) := dk_180 0 18 (dk_at dksX5_init_3 0 rfl rfl)
theorem dX5_init_72 : decode cX5_init 72 = .ok (.iconst 2, 1) := dk_5 (dk_at dksX5_init_3 3 rfl rfl)
theorem dX5_init_73 : decode cX5_init 73 = .ok (.invokestatic 41, 3) := dk_184 0 41 (dk_at dksX5_init_3 4 rfl rfl)
theorem dX5_init_76 : decode cX5_init 76 = .ok (.return_, 1) := dk_177 (dk_at dksX5_init_3 7 rfl rfl)
abbrev cX5_links : ByteArray := prog_13_method_5_code
def yX5_links : MethodName := ⟨RX5, "links", "(III)V"⟩
def dkwX5_links_2 : List UInt8 := [27, 96, 29, 79, 177]
abbrev dktX5_links_2 : List UInt8 := dkwX5_links_2 ++ []
def dkwX5_links_1 : List UInt8 := [182, 0, 58, 87, 42, 180, 0, 22, 16, 6, 27, 104, 28, 96, 29, 79, 42, 180, 0, 22, 16, 6, 28, 104]
abbrev dktX5_links_1 : List UInt8 := dkwX5_links_1 ++ dktX5_links_2
def dkwX5_links_0 : List UInt8 := [42, 27, 28, 182, 0, 55, 154, 0, 22, 42, 180, 0, 28, 5, 188, 10, 89, 3, 27, 79, 89, 4, 28, 79]
abbrev dktX5_links_0 : List UInt8 := dkwX5_links_0 ++ dktX5_links_1
theorem dksX5_links_0 : cX5_links.data.toList.drop 0 = dktX5_links_0 := by decide +kernel
theorem dksX5_links_1 : cX5_links.data.toList.drop 24 = dktX5_links_1 := dk_seg dksX5_links_0 24 rfl rfl
theorem dksX5_links_2 : cX5_links.data.toList.drop 48 = dktX5_links_2 := dk_seg dksX5_links_1 24 rfl rfl
theorem dX5_links_0 : decode cX5_links 0 = .ok (.aload_n 0, 1) := dk_42 (dk_at dksX5_links_0 0 rfl rfl)
theorem dX5_links_1 : decode cX5_links 1 = .ok (.iload_n 1, 1) := dk_27 (dk_at dksX5_links_0 1 rfl rfl)
theorem dX5_links_2 : decode cX5_links 2 = .ok (.iload_n 2, 1) := dk_28 (dk_at dksX5_links_0 2 rfl rfl)
theorem dX5_links_3 : decode cX5_links 3 = .ok (.invokevirtual 55, 3) := dk_182 0 55 (dk_at dksX5_links_0 3 rfl rfl)
theorem dX5_links_6 : decode cX5_links 6 = .ok (.ifCond .ne 22, 3) := dk_154 0 22 (dk_at dksX5_links_0 6 rfl rfl)
theorem dX5_links_9 : decode cX5_links 9 = .ok (.aload_n 0, 1) := dk_42 (dk_at dksX5_links_0 9 rfl rfl)
theorem dX5_links_10 : decode cX5_links 10 = .ok (.getfield 28, 3) := dk_180 0 28 (dk_at dksX5_links_0 10 rfl rfl)
theorem dX5_links_13 : decode cX5_links 13 = .ok (.iconst 2, 1) := dk_5 (dk_at dksX5_links_0 13 rfl rfl)
theorem dX5_links_14 : decode cX5_links 14 = .ok (.newarray .int, 2) := dk_188_10 (dk_at dksX5_links_0 14 rfl rfl)
theorem dX5_links_16 : decode cX5_links 16 = .ok (.dup, 1) := dk_89 (dk_at dksX5_links_0 16 rfl rfl)
theorem dX5_links_17 : decode cX5_links 17 = .ok (.iconst 0, 1) := dk_3 (dk_at dksX5_links_0 17 rfl rfl)
theorem dX5_links_18 : decode cX5_links 18 = .ok (.iload_n 1, 1) := dk_27 (dk_at dksX5_links_0 18 rfl rfl)
theorem dX5_links_19 : decode cX5_links 19 = .ok (.iastore, 1) := dk_79 (dk_at dksX5_links_0 19 rfl rfl)
theorem dX5_links_20 : decode cX5_links 20 = .ok (.dup, 1) := dk_89 (dk_at dksX5_links_0 20 rfl rfl)
theorem dX5_links_21 : decode cX5_links 21 = .ok (.iconst 1, 1) := dk_4 (dk_at dksX5_links_0 21 rfl rfl)
theorem dX5_links_22 : decode cX5_links 22 = .ok (.iload_n 2, 1) := dk_28 (dk_at dksX5_links_0 22 rfl rfl)
theorem dX5_links_23 : decode cX5_links 23 = .ok (.iastore, 1) := dk_79 (dk_at dksX5_links_0 23 rfl rfl)
theorem dX5_links_24 : decode cX5_links 24 = .ok (.invokevirtual 58, 3) := dk_182 0 58 (dk_at dksX5_links_1 0 rfl rfl)
theorem dX5_links_27 : decode cX5_links 27 = .ok (.pop, 1) := dk_87 (dk_at dksX5_links_1 3 rfl rfl)
theorem dX5_links_28 : decode cX5_links 28 = .ok (.aload_n 0, 1) := dk_42 (dk_at dksX5_links_1 4 rfl rfl)
theorem dX5_links_29 : decode cX5_links 29 = .ok (.getfield 22, 3) := dk_180 0 22 (dk_at dksX5_links_1 5 rfl rfl)
theorem dX5_links_32 : decode cX5_links 32 = .ok (.bipush 6, 2) := dk_16 6 (dk_at dksX5_links_1 8 rfl rfl)
theorem dX5_links_34 : decode cX5_links 34 = .ok (.iload_n 1, 1) := dk_27 (dk_at dksX5_links_1 10 rfl rfl)
theorem dX5_links_35 : decode cX5_links 35 = .ok (.imul, 1) := dk_104 (dk_at dksX5_links_1 11 rfl rfl)
theorem dX5_links_36 : decode cX5_links 36 = .ok (.iload_n 2, 1) := dk_28 (dk_at dksX5_links_1 12 rfl rfl)
theorem dX5_links_37 : decode cX5_links 37 = .ok (.iadd, 1) := dk_96 (dk_at dksX5_links_1 13 rfl rfl)
theorem dX5_links_38 : decode cX5_links 38 = .ok (.iload_n 3, 1) := dk_29 (dk_at dksX5_links_1 14 rfl rfl)
theorem dX5_links_39 : decode cX5_links 39 = .ok (.iastore, 1) := dk_79 (dk_at dksX5_links_1 15 rfl rfl)
theorem dX5_links_40 : decode cX5_links 40 = .ok (.aload_n 0, 1) := dk_42 (dk_at dksX5_links_1 16 rfl rfl)
theorem dX5_links_41 : decode cX5_links 41 = .ok (.getfield 22, 3) := dk_180 0 22 (dk_at dksX5_links_1 17 rfl rfl)
theorem dX5_links_44 : decode cX5_links 44 = .ok (.bipush 6, 2) := dk_16 6 (dk_at dksX5_links_1 20 rfl rfl)
theorem dX5_links_46 : decode cX5_links 46 = .ok (.iload_n 2, 1) := dk_28 (dk_at dksX5_links_1 22 rfl rfl)
theorem dX5_links_47 : decode cX5_links 47 = .ok (.imul, 1) := dk_104 (dk_at dksX5_links_1 23 rfl rfl)
theorem dX5_links_48 : decode cX5_links 48 = .ok (.iload_n 1, 1) := dk_27 (dk_at dksX5_links_2 0 rfl rfl)
theorem dX5_links_49 : decode cX5_links 49 = .ok (.iadd, 1) := dk_96 (dk_at dksX5_links_2 1 rfl rfl)
theorem dX5_links_50 : decode cX5_links 50 = .ok (.iload_n 3, 1) := dk_29 (dk_at dksX5_links_2 2 rfl rfl)
theorem dX5_links_51 : decode cX5_links 51 = .ok (.iastore, 1) := dk_79 (dk_at dksX5_links_2 3 rfl rfl)
theorem dX5_links_52 : decode cX5_links 52 = .ok (.return_, 1) := dk_177 (dk_at dksX5_links_2 4 rfl rfl)
abbrev cX5_delay : ByteArray := prog_13_method_3_code
def yX5_delay : MethodName := ⟨RX5, "delay", "(II)I"⟩
def dkwX5_delay_0 : List UInt8 := [42, 180, 0, 22, 16, 6, 27, 104, 28, 96, 46, 172]
abbrev dktX5_delay_0 : List UInt8 := dkwX5_delay_0 ++ []
theorem dksX5_delay_0 : cX5_delay.data.toList.drop 0 = dktX5_delay_0 := by decide +kernel
theorem dX5_delay_0 : decode cX5_delay 0 = .ok (.aload_n 0, 1) := dk_42 (dk_at dksX5_delay_0 0 rfl rfl)
theorem dX5_delay_1 : decode cX5_delay 1 = .ok (.getfield 22, 3) := dk_180 0 22 (dk_at dksX5_delay_0 1 rfl rfl)
theorem dX5_delay_4 : decode cX5_delay 4 = .ok (.bipush 6, 2) := dk_16 6 (dk_at dksX5_delay_0 4 rfl rfl)
theorem dX5_delay_6 : decode cX5_delay 6 = .ok (.iload_n 1, 1) := dk_27 (dk_at dksX5_delay_0 6 rfl rfl)
theorem dX5_delay_7 : decode cX5_delay 7 = .ok (.imul, 1) := dk_104 (dk_at dksX5_delay_0 7 rfl rfl)
theorem dX5_delay_8 : decode cX5_delay 8 = .ok (.iload_n 2, 1) := dk_28 (dk_at dksX5_delay_0 8 rfl rfl)
theorem dX5_delay_9 : decode cX5_delay 9 = .ok (.iadd, 1) := dk_96 (dk_at dksX5_delay_0 9 rfl rfl)
theorem dX5_delay_10 : decode cX5_delay 10 = .ok (.iaload, 1) := dk_46 (dk_at dksX5_delay_0 10 rfl rfl)
theorem dX5_delay_11 : decode cX5_delay 11 = .ok (.ireturn, 1) := dk_172 (dk_at dksX5_delay_0 11 rfl rfl)
abbrev cX5_isNode : ByteArray := prog_13_method_2_code
def yX5_isNode : MethodName := ⟨RX5, "isNode", "(I)Z"⟩
def dkwX5_isNode_0 : List UInt8 := [27, 3, 42, 180, 0, 9, 4, 100, 184, 0, 47, 172]
abbrev dktX5_isNode_0 : List UInt8 := dkwX5_isNode_0 ++ []
theorem dksX5_isNode_0 : cX5_isNode.data.toList.drop 0 = dktX5_isNode_0 := by decide +kernel
theorem dX5_isNode_0 : decode cX5_isNode 0 = .ok (.iload_n 1, 1) := dk_27 (dk_at dksX5_isNode_0 0 rfl rfl)
theorem dX5_isNode_1 : decode cX5_isNode 1 = .ok (.iconst 0, 1) := dk_3 (dk_at dksX5_isNode_0 1 rfl rfl)
theorem dX5_isNode_2 : decode cX5_isNode 2 = .ok (.aload_n 0, 1) := dk_42 (dk_at dksX5_isNode_0 2 rfl rfl)
theorem dX5_isNode_3 : decode cX5_isNode 3 = .ok (.getfield 9, 3) := dk_180 0 9 (dk_at dksX5_isNode_0 3 rfl rfl)
theorem dX5_isNode_6 : decode cX5_isNode 6 = .ok (.iconst 1, 1) := dk_4 (dk_at dksX5_isNode_0 6 rfl rfl)
theorem dX5_isNode_7 : decode cX5_isNode 7 = .ok (.isub, 1) := dk_100 (dk_at dksX5_isNode_0 7 rfl rfl)
theorem dX5_isNode_8 : decode cX5_isNode 8 = .ok (.invokestatic 47, 3) := dk_184 0 47 (dk_at dksX5_isNode_0 8 rfl rfl)
theorem dX5_isNode_11 : decode cX5_isNode 11 = .ok (.ireturn, 1) := dk_172 (dk_at dksX5_isNode_0 11 rfl rfl)
abbrev cX5_isLink : ByteArray := prog_13_method_4_code
def yX5_isLink : MethodName := ⟨RX5, "isLink", "(II)Z"⟩
def dkwX5_isLink_1 : List UInt8 := [158, 0, 7, 4, 167, 0, 4, 3, 172]
abbrev dktX5_isLink_1 : List UInt8 := dkwX5_isLink_1 ++ []
def dkwX5_isLink_0 : List UInt8 := [42, 27, 182, 0, 51, 153, 0, 24, 42, 28, 182, 0, 51, 153, 0, 16, 42, 27, 28, 182, 0, 55]
abbrev dktX5_isLink_0 : List UInt8 := dkwX5_isLink_0 ++ dktX5_isLink_1
theorem dksX5_isLink_0 : cX5_isLink.data.toList.drop 0 = dktX5_isLink_0 := by decide +kernel
theorem dksX5_isLink_1 : cX5_isLink.data.toList.drop 22 = dktX5_isLink_1 := dk_seg dksX5_isLink_0 22 rfl rfl
theorem dX5_isLink_0 : decode cX5_isLink 0 = .ok (.aload_n 0, 1) := dk_42 (dk_at dksX5_isLink_0 0 rfl rfl)
theorem dX5_isLink_1 : decode cX5_isLink 1 = .ok (.iload_n 1, 1) := dk_27 (dk_at dksX5_isLink_0 1 rfl rfl)
theorem dX5_isLink_2 : decode cX5_isLink 2 = .ok (.invokevirtual 51, 3) := dk_182 0 51 (dk_at dksX5_isLink_0 2 rfl rfl)
theorem dX5_isLink_5 : decode cX5_isLink 5 = .ok (.ifCond .eq 24, 3) := dk_153 0 24 (dk_at dksX5_isLink_0 5 rfl rfl)
theorem dX5_isLink_8 : decode cX5_isLink 8 = .ok (.aload_n 0, 1) := dk_42 (dk_at dksX5_isLink_0 8 rfl rfl)
theorem dX5_isLink_9 : decode cX5_isLink 9 = .ok (.iload_n 2, 1) := dk_28 (dk_at dksX5_isLink_0 9 rfl rfl)
theorem dX5_isLink_10 : decode cX5_isLink 10 = .ok (.invokevirtual 51, 3) := dk_182 0 51 (dk_at dksX5_isLink_0 10 rfl rfl)
theorem dX5_isLink_13 : decode cX5_isLink 13 = .ok (.ifCond .eq 16, 3) := dk_153 0 16 (dk_at dksX5_isLink_0 13 rfl rfl)
theorem dX5_isLink_16 : decode cX5_isLink 16 = .ok (.aload_n 0, 1) := dk_42 (dk_at dksX5_isLink_0 16 rfl rfl)
theorem dX5_isLink_17 : decode cX5_isLink 17 = .ok (.iload_n 1, 1) := dk_27 (dk_at dksX5_isLink_0 17 rfl rfl)
theorem dX5_isLink_18 : decode cX5_isLink 18 = .ok (.iload_n 2, 1) := dk_28 (dk_at dksX5_isLink_0 18 rfl rfl)
theorem dX5_isLink_19 : decode cX5_isLink 19 = .ok (.invokevirtual 55, 3) := dk_182 0 55 (dk_at dksX5_isLink_0 19 rfl rfl)
theorem dX5_isLink_22 : decode cX5_isLink 22 = .ok (.ifCond .le 7, 3) := dk_158 0 7 (dk_at dksX5_isLink_1 0 rfl rfl)
theorem dX5_isLink_25 : decode cX5_isLink 25 = .ok (.iconst 1, 1) := dk_4 (dk_at dksX5_isLink_1 3 rfl rfl)
theorem dX5_isLink_26 : decode cX5_isLink 26 = .ok (.goto 4, 3) := dk_167 0 4 (dk_at dksX5_isLink_1 4 rfl rfl)
theorem dX5_isLink_29 : decode cX5_isLink 29 = .ok (.iconst 0, 1) := dk_3 (dk_at dksX5_isLink_1 7 rfl rfl)
theorem dX5_isLink_30 : decode cX5_isLink 30 = .ok (.ireturn, 1) := dk_172 (dk_at dksX5_isLink_1 8 rfl rfl)
abbrev cX5_rows : ByteArray := prog_13_method_10_code
def yX5_rows : MethodName := ⟨RX5, "rows", "(I)I"⟩
def dkwX5_rows_3 : List UInt8 := [153, 0, 7, 4, 167, 0, 4, 3, 96, 61, 132, 4, 1, 167, 255, 213, 132, 3, 1, 167, 255, 172, 28, 172]
abbrev dktX5_rows_3 : List UInt8 := dkwX5_rows_3 ++ []
def dkwX5_rows_2 : List UInt8 := [182, 0, 66, 192, 0, 70, 180, 0, 75, 182, 0, 85, 163, 0, 27, 28, 42, 29, 21, 4, 182, 0, 116]
abbrev dktX5_rows_2 : List UInt8 := dkwX5_rows_2 ++ dktX5_rows_3
def dkwX5_rows_1 : List UInt8 := [192, 0, 70, 180, 0, 72, 27, 159, 0, 6, 167, 0, 52, 4, 54, 4, 21, 4, 42, 180, 0, 35, 29]
abbrev dktX5_rows_1 : List UInt8 := dkwX5_rows_1 ++ dktX5_rows_2
def dkwX5_rows_0 : List UInt8 := [3, 61, 3, 62, 29, 42, 180, 0, 35, 182, 0, 62, 162, 0, 79, 42, 180, 0, 35, 29, 182, 0, 66]
abbrev dktX5_rows_0 : List UInt8 := dkwX5_rows_0 ++ dktX5_rows_1
theorem dksX5_rows_0 : cX5_rows.data.toList.drop 0 = dktX5_rows_0 := by decide +kernel
theorem dksX5_rows_1 : cX5_rows.data.toList.drop 23 = dktX5_rows_1 := dk_seg dksX5_rows_0 23 rfl rfl
theorem dksX5_rows_2 : cX5_rows.data.toList.drop 46 = dktX5_rows_2 := dk_seg dksX5_rows_1 23 rfl rfl
theorem dksX5_rows_3 : cX5_rows.data.toList.drop 69 = dktX5_rows_3 := dk_seg dksX5_rows_2 23 rfl rfl
theorem dX5_rows_0 : decode cX5_rows 0 = .ok (.iconst 0, 1) := dk_3 (dk_at dksX5_rows_0 0 rfl rfl)
theorem dX5_rows_1 : decode cX5_rows 1 = .ok (.istore_n 2, 1) := dk_61 (dk_at dksX5_rows_0 1 rfl rfl)
theorem dX5_rows_2 : decode cX5_rows 2 = .ok (.iconst 0, 1) := dk_3 (dk_at dksX5_rows_0 2 rfl rfl)
theorem dX5_rows_3 : decode cX5_rows 3 = .ok (.istore_n 3, 1) := dk_62 (dk_at dksX5_rows_0 3 rfl rfl)
theorem dX5_rows_4 : decode cX5_rows 4 = .ok (.iload_n 3, 1) := dk_29 (dk_at dksX5_rows_0 4 rfl rfl)
theorem dX5_rows_5 : decode cX5_rows 5 = .ok (.aload_n 0, 1) := dk_42 (dk_at dksX5_rows_0 5 rfl rfl)
theorem dX5_rows_6 : decode cX5_rows 6 = .ok (.getfield 35, 3) := dk_180 0 35 (dk_at dksX5_rows_0 6 rfl rfl)
theorem dX5_rows_9 : decode cX5_rows 9 = .ok (.invokevirtual 62, 3) := dk_182 0 62 (dk_at dksX5_rows_0 9 rfl rfl)
theorem dX5_rows_12 : decode cX5_rows 12 = .ok (.if_icmp .ge 79, 3) := dk_162 0 79 (dk_at dksX5_rows_0 12 rfl rfl)
theorem dX5_rows_15 : decode cX5_rows 15 = .ok (.aload_n 0, 1) := dk_42 (dk_at dksX5_rows_0 15 rfl rfl)
theorem dX5_rows_16 : decode cX5_rows 16 = .ok (.getfield 35, 3) := dk_180 0 35 (dk_at dksX5_rows_0 16 rfl rfl)
theorem dX5_rows_19 : decode cX5_rows 19 = .ok (.iload_n 3, 1) := dk_29 (dk_at dksX5_rows_0 19 rfl rfl)
theorem dX5_rows_20 : decode cX5_rows 20 = .ok (.invokevirtual 66, 3) := dk_182 0 66 (dk_at dksX5_rows_0 20 rfl rfl)
theorem dX5_rows_23 : decode cX5_rows 23 = .ok (.checkcast 70, 3) := dk_192 0 70 (dk_at dksX5_rows_1 0 rfl rfl)
theorem dX5_rows_26 : decode cX5_rows 26 = .ok (.getfield 72, 3) := dk_180 0 72 (dk_at dksX5_rows_1 3 rfl rfl)
theorem dX5_rows_29 : decode cX5_rows 29 = .ok (.iload_n 1, 1) := dk_27 (dk_at dksX5_rows_1 6 rfl rfl)
theorem dX5_rows_30 : decode cX5_rows 30 = .ok (.if_icmp .eq 6, 3) := dk_159 0 6 (dk_at dksX5_rows_1 7 rfl rfl)
theorem dX5_rows_33 : decode cX5_rows 33 = .ok (.goto 52, 3) := dk_167 0 52 (dk_at dksX5_rows_1 10 rfl rfl)
theorem dX5_rows_36 : decode cX5_rows 36 = .ok (.iconst 1, 1) := dk_4 (dk_at dksX5_rows_1 13 rfl rfl)
theorem dX5_rows_37 : decode cX5_rows 37 = .ok (.istore 4, 2) := dk_54 4 (dk_at dksX5_rows_1 14 rfl rfl)
theorem dX5_rows_39 : decode cX5_rows 39 = .ok (.iload 4, 2) := dk_21 4 (dk_at dksX5_rows_1 16 rfl rfl)
theorem dX5_rows_41 : decode cX5_rows 41 = .ok (.aload_n 0, 1) := dk_42 (dk_at dksX5_rows_1 18 rfl rfl)
theorem dX5_rows_42 : decode cX5_rows 42 = .ok (.getfield 35, 3) := dk_180 0 35 (dk_at dksX5_rows_1 19 rfl rfl)
theorem dX5_rows_45 : decode cX5_rows 45 = .ok (.iload_n 3, 1) := dk_29 (dk_at dksX5_rows_1 22 rfl rfl)
theorem dX5_rows_46 : decode cX5_rows 46 = .ok (.invokevirtual 66, 3) := dk_182 0 66 (dk_at dksX5_rows_2 0 rfl rfl)
theorem dX5_rows_49 : decode cX5_rows 49 = .ok (.checkcast 70, 3) := dk_192 0 70 (dk_at dksX5_rows_2 3 rfl rfl)
theorem dX5_rows_52 : decode cX5_rows 52 = .ok (.getfield 75, 3) := dk_180 0 75 (dk_at dksX5_rows_2 6 rfl rfl)
theorem dX5_rows_55 : decode cX5_rows 55 = .ok (.invokevirtual 85, 3) := dk_182 0 85 (dk_at dksX5_rows_2 9 rfl rfl)
theorem dX5_rows_58 : decode cX5_rows 58 = .ok (.if_icmp .gt 27, 3) := dk_163 0 27 (dk_at dksX5_rows_2 12 rfl rfl)
theorem dX5_rows_61 : decode cX5_rows 61 = .ok (.iload_n 2, 1) := dk_28 (dk_at dksX5_rows_2 15 rfl rfl)
theorem dX5_rows_62 : decode cX5_rows 62 = .ok (.aload_n 0, 1) := dk_42 (dk_at dksX5_rows_2 16 rfl rfl)
theorem dX5_rows_63 : decode cX5_rows 63 = .ok (.iload_n 3, 1) := dk_29 (dk_at dksX5_rows_2 17 rfl rfl)
theorem dX5_rows_64 : decode cX5_rows 64 = .ok (.iload 4, 2) := dk_21 4 (dk_at dksX5_rows_2 18 rfl rfl)
theorem dX5_rows_66 : decode cX5_rows 66 = .ok (.invokevirtual 116, 3) := dk_182 0 116 (dk_at dksX5_rows_2 20 rfl rfl)
theorem dX5_rows_69 : decode cX5_rows 69 = .ok (.ifCond .eq 7, 3) := dk_153 0 7 (dk_at dksX5_rows_3 0 rfl rfl)
theorem dX5_rows_72 : decode cX5_rows 72 = .ok (.iconst 1, 1) := dk_4 (dk_at dksX5_rows_3 3 rfl rfl)
theorem dX5_rows_73 : decode cX5_rows 73 = .ok (.goto 4, 3) := dk_167 0 4 (dk_at dksX5_rows_3 4 rfl rfl)
theorem dX5_rows_76 : decode cX5_rows 76 = .ok (.iconst 0, 1) := dk_3 (dk_at dksX5_rows_3 7 rfl rfl)
theorem dX5_rows_77 : decode cX5_rows 77 = .ok (.iadd, 1) := dk_96 (dk_at dksX5_rows_3 8 rfl rfl)
theorem dX5_rows_78 : decode cX5_rows 78 = .ok (.istore_n 2, 1) := dk_61 (dk_at dksX5_rows_3 9 rfl rfl)
theorem dX5_rows_79 : decode cX5_rows 79 = .ok (.iinc 4 1, 3) := dk_132 4 1 (dk_at dksX5_rows_3 10 rfl rfl)
theorem dX5_rows_82 : decode cX5_rows 82 = .ok (.goto (-43), 3) := dk_167 255 213 (dk_at dksX5_rows_3 13 rfl rfl)
theorem dX5_rows_85 : decode cX5_rows 85 = .ok (.iinc 3 1, 3) := dk_132 3 1 (dk_at dksX5_rows_3 16 rfl rfl)
theorem dX5_rows_88 : decode cX5_rows 88 = .ok (.goto (-84), 3) := dk_167 255 172 (dk_at dksX5_rows_3 19 rfl rfl)
theorem dX5_rows_91 : decode cX5_rows 91 = .ok (.iload_n 2, 1) := dk_28 (dk_at dksX5_rows_3 22 rfl rfl)
theorem dX5_rows_92 : decode cX5_rows 92 = .ok (.ireturn, 1) := dk_172 (dk_at dksX5_rows_3 23 rfl rfl)
abbrev cX5_isFirst : ByteArray := prog_13_method_11_code
def yX5_isFirst : MethodName := ⟨RX5, "isFirst", "(II)Z"⟩
def dkwX5_isFirst_4 : List UInt8 := [4, 172]
abbrev dktX5_isFirst_4 : List UInt8 := dkwX5_isFirst_4 ++ []
def dkwX5_isFirst_3 : List UInt8 := [182, 0, 66, 192, 0, 70, 180, 0, 75, 45, 182, 0, 79, 153, 0, 5, 3, 172, 132, 4, 1, 167, 255, 191]
abbrev dktX5_isFirst_3 : List UInt8 := dkwX5_isFirst_3 ++ dktX5_isFirst_4
def dkwX5_isFirst_2 : List UInt8 := [180, 0, 35, 27, 182, 0, 66, 192, 0, 70, 180, 0, 72, 160, 0, 27, 42, 180, 0, 35, 21, 4]
abbrev dktX5_isFirst_2 : List UInt8 := dkwX5_isFirst_2 ++ dktX5_isFirst_3
def dkwX5_isFirst_1 : List UInt8 := [21, 4, 27, 162, 0, 65, 42, 180, 0, 35, 21, 4, 182, 0, 66, 192, 0, 70, 180, 0, 72, 42]
abbrev dktX5_isFirst_1 : List UInt8 := dkwX5_isFirst_1 ++ dktX5_isFirst_2
def dkwX5_isFirst_0 : List UInt8 := [42, 180, 0, 35, 27, 182, 0, 66, 192, 0, 70, 180, 0, 75, 3, 28, 182, 0, 120, 78, 3, 54, 4]
abbrev dktX5_isFirst_0 : List UInt8 := dkwX5_isFirst_0 ++ dktX5_isFirst_1
theorem dksX5_isFirst_0 : cX5_isFirst.data.toList.drop 0 = dktX5_isFirst_0 := by decide +kernel
theorem dksX5_isFirst_1 : cX5_isFirst.data.toList.drop 23 = dktX5_isFirst_1 := dk_seg dksX5_isFirst_0 23 rfl rfl
theorem dksX5_isFirst_2 : cX5_isFirst.data.toList.drop 45 = dktX5_isFirst_2 := dk_seg dksX5_isFirst_1 22 rfl rfl
theorem dksX5_isFirst_3 : cX5_isFirst.data.toList.drop 67 = dktX5_isFirst_3 := dk_seg dksX5_isFirst_2 22 rfl rfl
theorem dksX5_isFirst_4 : cX5_isFirst.data.toList.drop 91 = dktX5_isFirst_4 := dk_seg dksX5_isFirst_3 24 rfl rfl
theorem dX5_isFirst_0 : decode cX5_isFirst 0 = .ok (.aload_n 0, 1) := dk_42 (dk_at dksX5_isFirst_0 0 rfl rfl)
theorem dX5_isFirst_1 : decode cX5_isFirst 1 = .ok (.getfield 35, 3) := dk_180 0 35 (dk_at dksX5_isFirst_0 1 rfl rfl)
theorem dX5_isFirst_4 : decode cX5_isFirst 4 = .ok (.iload_n 1, 1) := dk_27 (dk_at dksX5_isFirst_0 4 rfl rfl)
theorem dX5_isFirst_5 : decode cX5_isFirst 5 = .ok (.invokevirtual 66, 3) := dk_182 0 66 (dk_at dksX5_isFirst_0 5 rfl rfl)
theorem dX5_isFirst_8 : decode cX5_isFirst 8 = .ok (.checkcast 70, 3) := dk_192 0 70 (dk_at dksX5_isFirst_0 8 rfl rfl)
theorem dX5_isFirst_11 : decode cX5_isFirst 11 = .ok (.getfield 75, 3) := dk_180 0 75 (dk_at dksX5_isFirst_0 11 rfl rfl)
theorem dX5_isFirst_14 : decode cX5_isFirst 14 = .ok (.iconst 0, 1) := dk_3 (dk_at dksX5_isFirst_0 14 rfl rfl)
theorem dX5_isFirst_15 : decode cX5_isFirst 15 = .ok (.iload_n 2, 1) := dk_28 (dk_at dksX5_isFirst_0 15 rfl rfl)
theorem dX5_isFirst_16 : decode cX5_isFirst 16 = .ok (.invokevirtual 120, 3) := dk_182 0 120 (dk_at dksX5_isFirst_0 16 rfl rfl)
theorem dX5_isFirst_19 : decode cX5_isFirst 19 = .ok (.astore_n 3, 1) := dk_78 (dk_at dksX5_isFirst_0 19 rfl rfl)
theorem dX5_isFirst_20 : decode cX5_isFirst 20 = .ok (.iconst 0, 1) := dk_3 (dk_at dksX5_isFirst_0 20 rfl rfl)
theorem dX5_isFirst_21 : decode cX5_isFirst 21 = .ok (.istore 4, 2) := dk_54 4 (dk_at dksX5_isFirst_0 21 rfl rfl)
theorem dX5_isFirst_23 : decode cX5_isFirst 23 = .ok (.iload 4, 2) := dk_21 4 (dk_at dksX5_isFirst_1 0 rfl rfl)
theorem dX5_isFirst_25 : decode cX5_isFirst 25 = .ok (.iload_n 1, 1) := dk_27 (dk_at dksX5_isFirst_1 2 rfl rfl)
theorem dX5_isFirst_26 : decode cX5_isFirst 26 = .ok (.if_icmp .ge 65, 3) := dk_162 0 65 (dk_at dksX5_isFirst_1 3 rfl rfl)
theorem dX5_isFirst_29 : decode cX5_isFirst 29 = .ok (.aload_n 0, 1) := dk_42 (dk_at dksX5_isFirst_1 6 rfl rfl)
theorem dX5_isFirst_30 : decode cX5_isFirst 30 = .ok (.getfield 35, 3) := dk_180 0 35 (dk_at dksX5_isFirst_1 7 rfl rfl)
theorem dX5_isFirst_33 : decode cX5_isFirst 33 = .ok (.iload 4, 2) := dk_21 4 (dk_at dksX5_isFirst_1 10 rfl rfl)
theorem dX5_isFirst_35 : decode cX5_isFirst 35 = .ok (.invokevirtual 66, 3) := dk_182 0 66 (dk_at dksX5_isFirst_1 12 rfl rfl)
theorem dX5_isFirst_38 : decode cX5_isFirst 38 = .ok (.checkcast 70, 3) := dk_192 0 70 (dk_at dksX5_isFirst_1 15 rfl rfl)
theorem dX5_isFirst_41 : decode cX5_isFirst 41 = .ok (.getfield 72, 3) := dk_180 0 72 (dk_at dksX5_isFirst_1 18 rfl rfl)
theorem dX5_isFirst_44 : decode cX5_isFirst 44 = .ok (.aload_n 0, 1) := dk_42 (dk_at dksX5_isFirst_1 21 rfl rfl)
theorem dX5_isFirst_45 : decode cX5_isFirst 45 = .ok (.getfield 35, 3) := dk_180 0 35 (dk_at dksX5_isFirst_2 0 rfl rfl)
theorem dX5_isFirst_48 : decode cX5_isFirst 48 = .ok (.iload_n 1, 1) := dk_27 (dk_at dksX5_isFirst_2 3 rfl rfl)
theorem dX5_isFirst_49 : decode cX5_isFirst 49 = .ok (.invokevirtual 66, 3) := dk_182 0 66 (dk_at dksX5_isFirst_2 4 rfl rfl)
theorem dX5_isFirst_52 : decode cX5_isFirst 52 = .ok (.checkcast 70, 3) := dk_192 0 70 (dk_at dksX5_isFirst_2 7 rfl rfl)
theorem dX5_isFirst_55 : decode cX5_isFirst 55 = .ok (.getfield 72, 3) := dk_180 0 72 (dk_at dksX5_isFirst_2 10 rfl rfl)
theorem dX5_isFirst_58 : decode cX5_isFirst 58 = .ok (.if_icmp .ne 27, 3) := dk_160 0 27 (dk_at dksX5_isFirst_2 13 rfl rfl)
theorem dX5_isFirst_61 : decode cX5_isFirst 61 = .ok (.aload_n 0, 1) := dk_42 (dk_at dksX5_isFirst_2 16 rfl rfl)
theorem dX5_isFirst_62 : decode cX5_isFirst 62 = .ok (.getfield 35, 3) := dk_180 0 35 (dk_at dksX5_isFirst_2 17 rfl rfl)
theorem dX5_isFirst_65 : decode cX5_isFirst 65 = .ok (.iload 4, 2) := dk_21 4 (dk_at dksX5_isFirst_2 20 rfl rfl)
theorem dX5_isFirst_67 : decode cX5_isFirst 67 = .ok (.invokevirtual 66, 3) := dk_182 0 66 (dk_at dksX5_isFirst_3 0 rfl rfl)
theorem dX5_isFirst_70 : decode cX5_isFirst 70 = .ok (.checkcast 70, 3) := dk_192 0 70 (dk_at dksX5_isFirst_3 3 rfl rfl)
theorem dX5_isFirst_73 : decode cX5_isFirst 73 = .ok (.getfield 75, 3) := dk_180 0 75 (dk_at dksX5_isFirst_3 6 rfl rfl)
theorem dX5_isFirst_76 : decode cX5_isFirst 76 = .ok (.aload_n 3, 1) := dk_45 (dk_at dksX5_isFirst_3 9 rfl rfl)
theorem dX5_isFirst_77 : decode cX5_isFirst 77 = .ok (.invokevirtual 79, 3) := dk_182 0 79 (dk_at dksX5_isFirst_3 10 rfl rfl)
theorem dX5_isFirst_80 : decode cX5_isFirst 80 = .ok (.ifCond .eq 5, 3) := dk_153 0 5 (dk_at dksX5_isFirst_3 13 rfl rfl)
theorem dX5_isFirst_83 : decode cX5_isFirst 83 = .ok (.iconst 0, 1) := dk_3 (dk_at dksX5_isFirst_3 16 rfl rfl)
theorem dX5_isFirst_84 : decode cX5_isFirst 84 = .ok (.ireturn, 1) := dk_172 (dk_at dksX5_isFirst_3 17 rfl rfl)
theorem dX5_isFirst_85 : decode cX5_isFirst 85 = .ok (.iinc 4 1, 3) := dk_132 4 1 (dk_at dksX5_isFirst_3 18 rfl rfl)
theorem dX5_isFirst_88 : decode cX5_isFirst 88 = .ok (.goto (-65), 3) := dk_167 255 191 (dk_at dksX5_isFirst_3 21 rfl rfl)
theorem dX5_isFirst_91 : decode cX5_isFirst 91 = .ok (.iconst 1, 1) := dk_4 (dk_at dksX5_isFirst_4 0 rfl rfl)
theorem dX5_isFirst_92 : decode cX5_isFirst 92 = .ok (.ireturn, 1) := dk_172 (dk_at dksX5_isFirst_4 1 rfl rfl)
abbrev cX5_routes : ByteArray := prog_13_method_12_code
def yX5_routes : MethodName := ⟨RX5, "routes", "(I)I"⟩
def dkwX5_routes_2 : List UInt8 := [3, 96, 61, 167, 255, 219, 28, 172]
abbrev dktX5_routes_2 : List UInt8 := dkwX5_routes_2 ++ []
def dkwX5_routes_1 : List UInt8 := [185, 0, 104, 1, 0, 192, 0, 70, 58, 4, 28, 25, 4, 180, 0, 72, 27, 160, 0, 7, 4, 167, 0, 4]
abbrev dktX5_routes_1 : List UInt8 := dkwX5_routes_1 ++ dktX5_routes_2
def dkwX5_routes_0 : List UInt8 := [3, 61, 42, 180, 0, 35, 182, 0, 94, 78, 45, 185, 0, 98, 1, 0, 153, 0, 34, 45]
abbrev dktX5_routes_0 : List UInt8 := dkwX5_routes_0 ++ dktX5_routes_1
theorem dksX5_routes_0 : cX5_routes.data.toList.drop 0 = dktX5_routes_0 := by decide +kernel
theorem dksX5_routes_1 : cX5_routes.data.toList.drop 20 = dktX5_routes_1 := dk_seg dksX5_routes_0 20 rfl rfl
theorem dksX5_routes_2 : cX5_routes.data.toList.drop 44 = dktX5_routes_2 := dk_seg dksX5_routes_1 24 rfl rfl
theorem dX5_routes_0 : decode cX5_routes 0 = .ok (.iconst 0, 1) := dk_3 (dk_at dksX5_routes_0 0 rfl rfl)
theorem dX5_routes_1 : decode cX5_routes 1 = .ok (.istore_n 2, 1) := dk_61 (dk_at dksX5_routes_0 1 rfl rfl)
theorem dX5_routes_2 : decode cX5_routes 2 = .ok (.aload_n 0, 1) := dk_42 (dk_at dksX5_routes_0 2 rfl rfl)
theorem dX5_routes_3 : decode cX5_routes 3 = .ok (.getfield 35, 3) := dk_180 0 35 (dk_at dksX5_routes_0 3 rfl rfl)
theorem dX5_routes_6 : decode cX5_routes 6 = .ok (.invokevirtual 94, 3) := dk_182 0 94 (dk_at dksX5_routes_0 6 rfl rfl)
theorem dX5_routes_9 : decode cX5_routes 9 = .ok (.astore_n 3, 1) := dk_78 (dk_at dksX5_routes_0 9 rfl rfl)
theorem dX5_routes_10 : decode cX5_routes 10 = .ok (.aload_n 3, 1) := dk_45 (dk_at dksX5_routes_0 10 rfl rfl)
theorem dX5_routes_11 : decode cX5_routes 11 = .ok (.invokeinterface 98 1, 5) := by decide +kernel
theorem dX5_routes_16 : decode cX5_routes 16 = .ok (.ifCond .eq 34, 3) := dk_153 0 34 (dk_at dksX5_routes_0 16 rfl rfl)
theorem dX5_routes_19 : decode cX5_routes 19 = .ok (.aload_n 3, 1) := dk_45 (dk_at dksX5_routes_0 19 rfl rfl)
theorem dX5_routes_20 : decode cX5_routes 20 = .ok (.invokeinterface 104 1, 5) := by decide +kernel
theorem dX5_routes_25 : decode cX5_routes 25 = .ok (.checkcast 70, 3) := dk_192 0 70 (dk_at dksX5_routes_1 5 rfl rfl)
theorem dX5_routes_28 : decode cX5_routes 28 = .ok (.astore 4, 2) := dk_58 4 (dk_at dksX5_routes_1 8 rfl rfl)
theorem dX5_routes_30 : decode cX5_routes 30 = .ok (.iload_n 2, 1) := dk_28 (dk_at dksX5_routes_1 10 rfl rfl)
theorem dX5_routes_31 : decode cX5_routes 31 = .ok (.aload 4, 2) := dk_25 4 (dk_at dksX5_routes_1 11 rfl rfl)
theorem dX5_routes_33 : decode cX5_routes 33 = .ok (.getfield 72, 3) := dk_180 0 72 (dk_at dksX5_routes_1 13 rfl rfl)
theorem dX5_routes_36 : decode cX5_routes 36 = .ok (.iload_n 1, 1) := dk_27 (dk_at dksX5_routes_1 16 rfl rfl)
theorem dX5_routes_37 : decode cX5_routes 37 = .ok (.if_icmp .ne 7, 3) := dk_160 0 7 (dk_at dksX5_routes_1 17 rfl rfl)
theorem dX5_routes_40 : decode cX5_routes 40 = .ok (.iconst 1, 1) := dk_4 (dk_at dksX5_routes_1 20 rfl rfl)
theorem dX5_routes_41 : decode cX5_routes 41 = .ok (.goto 4, 3) := dk_167 0 4 (dk_at dksX5_routes_1 21 rfl rfl)
theorem dX5_routes_44 : decode cX5_routes 44 = .ok (.iconst 0, 1) := dk_3 (dk_at dksX5_routes_2 0 rfl rfl)
theorem dX5_routes_45 : decode cX5_routes 45 = .ok (.iadd, 1) := dk_96 (dk_at dksX5_routes_2 1 rfl rfl)
theorem dX5_routes_46 : decode cX5_routes 46 = .ok (.istore_n 2, 1) := dk_61 (dk_at dksX5_routes_2 2 rfl rfl)
theorem dX5_routes_47 : decode cX5_routes 47 = .ok (.goto (-37), 3) := dk_167 255 219 (dk_at dksX5_routes_2 3 rfl rfl)
theorem dX5_routes_50 : decode cX5_routes 50 = .ok (.iload_n 2, 1) := dk_28 (dk_at dksX5_routes_2 6 rfl rfl)
theorem dX5_routes_51 : decode cX5_routes 51 = .ok (.ireturn, 1) := dk_172 (dk_at dksX5_routes_2 7 rfl rfl)
abbrev cX5_longest : ByteArray := prog_13_method_6_code
def yX5_longest : MethodName := ⟨RX5, "longest", "(ILjava/lang/String;)I"⟩
def dkwX5_longest_3 : List UInt8 := [192, 0, 70, 180, 0, 75, 182, 0, 85, 184, 0, 88, 62, 132, 4, 1, 167, 255, 177, 29, 172]
abbrev dktX5_longest_3 : List UInt8 := dkwX5_longest_3 ++ []
def dkwX5_longest_2 : List UInt8 := [192, 0, 70, 180, 0, 75, 182, 0, 79, 153, 0, 26, 29, 42, 180, 0, 35, 21, 4, 182, 0, 66]
abbrev dktX5_longest_2 : List UInt8 := dkwX5_longest_2 ++ dktX5_longest_3
def dkwX5_longest_1 : List UInt8 := [182, 0, 66, 192, 0, 70, 180, 0, 72, 27, 160, 0, 48, 44, 42, 180, 0, 35, 21, 4, 182, 0, 66]
abbrev dktX5_longest_1 : List UInt8 := dkwX5_longest_1 ++ dktX5_longest_2
def dkwX5_longest_0 : List UInt8 := [3, 62, 3, 54, 4, 21, 4, 42, 180, 0, 35, 182, 0, 62, 162, 0, 73, 42, 180, 0, 35, 21, 4]
abbrev dktX5_longest_0 : List UInt8 := dkwX5_longest_0 ++ dktX5_longest_1
theorem dksX5_longest_0 : cX5_longest.data.toList.drop 0 = dktX5_longest_0 := by decide +kernel
theorem dksX5_longest_1 : cX5_longest.data.toList.drop 23 = dktX5_longest_1 := dk_seg dksX5_longest_0 23 rfl rfl
theorem dksX5_longest_2 : cX5_longest.data.toList.drop 46 = dktX5_longest_2 := dk_seg dksX5_longest_1 23 rfl rfl
theorem dksX5_longest_3 : cX5_longest.data.toList.drop 68 = dktX5_longest_3 := dk_seg dksX5_longest_2 22 rfl rfl
theorem dX5_longest_0 : decode cX5_longest 0 = .ok (.iconst 0, 1) := dk_3 (dk_at dksX5_longest_0 0 rfl rfl)
theorem dX5_longest_1 : decode cX5_longest 1 = .ok (.istore_n 3, 1) := dk_62 (dk_at dksX5_longest_0 1 rfl rfl)
theorem dX5_longest_2 : decode cX5_longest 2 = .ok (.iconst 0, 1) := dk_3 (dk_at dksX5_longest_0 2 rfl rfl)
theorem dX5_longest_3 : decode cX5_longest 3 = .ok (.istore 4, 2) := dk_54 4 (dk_at dksX5_longest_0 3 rfl rfl)
theorem dX5_longest_5 : decode cX5_longest 5 = .ok (.iload 4, 2) := dk_21 4 (dk_at dksX5_longest_0 5 rfl rfl)
theorem dX5_longest_7 : decode cX5_longest 7 = .ok (.aload_n 0, 1) := dk_42 (dk_at dksX5_longest_0 7 rfl rfl)
theorem dX5_longest_8 : decode cX5_longest 8 = .ok (.getfield 35, 3) := dk_180 0 35 (dk_at dksX5_longest_0 8 rfl rfl)
theorem dX5_longest_11 : decode cX5_longest 11 = .ok (.invokevirtual 62, 3) := dk_182 0 62 (dk_at dksX5_longest_0 11 rfl rfl)
theorem dX5_longest_14 : decode cX5_longest 14 = .ok (.if_icmp .ge 73, 3) := dk_162 0 73 (dk_at dksX5_longest_0 14 rfl rfl)
theorem dX5_longest_17 : decode cX5_longest 17 = .ok (.aload_n 0, 1) := dk_42 (dk_at dksX5_longest_0 17 rfl rfl)
theorem dX5_longest_18 : decode cX5_longest 18 = .ok (.getfield 35, 3) := dk_180 0 35 (dk_at dksX5_longest_0 18 rfl rfl)
theorem dX5_longest_21 : decode cX5_longest 21 = .ok (.iload 4, 2) := dk_21 4 (dk_at dksX5_longest_0 21 rfl rfl)
theorem dX5_longest_23 : decode cX5_longest 23 = .ok (.invokevirtual 66, 3) := dk_182 0 66 (dk_at dksX5_longest_1 0 rfl rfl)
theorem dX5_longest_26 : decode cX5_longest 26 = .ok (.checkcast 70, 3) := dk_192 0 70 (dk_at dksX5_longest_1 3 rfl rfl)
theorem dX5_longest_29 : decode cX5_longest 29 = .ok (.getfield 72, 3) := dk_180 0 72 (dk_at dksX5_longest_1 6 rfl rfl)
theorem dX5_longest_32 : decode cX5_longest 32 = .ok (.iload_n 1, 1) := dk_27 (dk_at dksX5_longest_1 9 rfl rfl)
theorem dX5_longest_33 : decode cX5_longest 33 = .ok (.if_icmp .ne 48, 3) := dk_160 0 48 (dk_at dksX5_longest_1 10 rfl rfl)
theorem dX5_longest_36 : decode cX5_longest 36 = .ok (.aload_n 2, 1) := dk_44 (dk_at dksX5_longest_1 13 rfl rfl)
theorem dX5_longest_37 : decode cX5_longest 37 = .ok (.aload_n 0, 1) := dk_42 (dk_at dksX5_longest_1 14 rfl rfl)
theorem dX5_longest_38 : decode cX5_longest 38 = .ok (.getfield 35, 3) := dk_180 0 35 (dk_at dksX5_longest_1 15 rfl rfl)
theorem dX5_longest_41 : decode cX5_longest 41 = .ok (.iload 4, 2) := dk_21 4 (dk_at dksX5_longest_1 18 rfl rfl)
theorem dX5_longest_43 : decode cX5_longest 43 = .ok (.invokevirtual 66, 3) := dk_182 0 66 (dk_at dksX5_longest_1 20 rfl rfl)
theorem dX5_longest_46 : decode cX5_longest 46 = .ok (.checkcast 70, 3) := dk_192 0 70 (dk_at dksX5_longest_2 0 rfl rfl)
theorem dX5_longest_49 : decode cX5_longest 49 = .ok (.getfield 75, 3) := dk_180 0 75 (dk_at dksX5_longest_2 3 rfl rfl)
theorem dX5_longest_52 : decode cX5_longest 52 = .ok (.invokevirtual 79, 3) := dk_182 0 79 (dk_at dksX5_longest_2 6 rfl rfl)
theorem dX5_longest_55 : decode cX5_longest 55 = .ok (.ifCond .eq 26, 3) := dk_153 0 26 (dk_at dksX5_longest_2 9 rfl rfl)
theorem dX5_longest_58 : decode cX5_longest 58 = .ok (.iload_n 3, 1) := dk_29 (dk_at dksX5_longest_2 12 rfl rfl)
theorem dX5_longest_59 : decode cX5_longest 59 = .ok (.aload_n 0, 1) := dk_42 (dk_at dksX5_longest_2 13 rfl rfl)
theorem dX5_longest_60 : decode cX5_longest 60 = .ok (.getfield 35, 3) := dk_180 0 35 (dk_at dksX5_longest_2 14 rfl rfl)
theorem dX5_longest_63 : decode cX5_longest 63 = .ok (.iload 4, 2) := dk_21 4 (dk_at dksX5_longest_2 17 rfl rfl)
theorem dX5_longest_65 : decode cX5_longest 65 = .ok (.invokevirtual 66, 3) := dk_182 0 66 (dk_at dksX5_longest_2 19 rfl rfl)
theorem dX5_longest_68 : decode cX5_longest 68 = .ok (.checkcast 70, 3) := dk_192 0 70 (dk_at dksX5_longest_3 0 rfl rfl)
theorem dX5_longest_71 : decode cX5_longest 71 = .ok (.getfield 75, 3) := dk_180 0 75 (dk_at dksX5_longest_3 3 rfl rfl)
theorem dX5_longest_74 : decode cX5_longest 74 = .ok (.invokevirtual 85, 3) := dk_182 0 85 (dk_at dksX5_longest_3 6 rfl rfl)
theorem dX5_longest_77 : decode cX5_longest 77 = .ok (.invokestatic 88, 3) := dk_184 0 88 (dk_at dksX5_longest_3 9 rfl rfl)
theorem dX5_longest_80 : decode cX5_longest 80 = .ok (.istore_n 3, 1) := dk_62 (dk_at dksX5_longest_3 12 rfl rfl)
theorem dX5_longest_81 : decode cX5_longest 81 = .ok (.iinc 4 1, 3) := dk_132 4 1 (dk_at dksX5_longest_3 13 rfl rfl)
theorem dX5_longest_84 : decode cX5_longest 84 = .ok (.goto (-79), 3) := dk_167 255 177 (dk_at dksX5_longest_3 16 rfl rfl)
theorem dX5_longest_87 : decode cX5_longest 87 = .ok (.iload_n 3, 1) := dk_29 (dk_at dksX5_longest_3 19 rfl rfl)
theorem dX5_longest_88 : decode cX5_longest 88 = .ok (.ireturn, 1) := dk_172 (dk_at dksX5_longest_3 20 rfl rfl)
abbrev cX5_server : ByteArray := prog_13_method_7_code
def yX5_server : MethodName := ⟨RX5, "server", "(ILjava/lang/String;)LAskedNames$Route;"⟩
def dkwX5_server_3 : List UInt8 := [182, 0, 85, 164, 0, 6, 25, 5, 78, 132, 4, 1, 167, 255, 181, 45, 176]
abbrev dktX5_server_3 : List UInt8 := dkwX5_server_3 ++ []
def dkwX5_server_2 : List UInt8 := [182, 0, 79, 153, 0, 28, 45, 198, 0, 21, 25, 5, 180, 0, 75, 182, 0, 85, 45, 180, 0, 75]
abbrev dktX5_server_2 : List UInt8 := dkwX5_server_2 ++ dktX5_server_3
def dkwX5_server_1 : List UInt8 := [182, 0, 66, 192, 0, 70, 58, 5, 25, 5, 180, 0, 72, 27, 160, 0, 40, 44, 25, 5, 180, 0, 75]
abbrev dktX5_server_1 : List UInt8 := dkwX5_server_1 ++ dktX5_server_2
def dkwX5_server_0 : List UInt8 := [1, 78, 3, 54, 4, 21, 4, 42, 180, 0, 38, 182, 0, 62, 162, 0, 69, 42, 180, 0, 38, 21, 4]
abbrev dktX5_server_0 : List UInt8 := dkwX5_server_0 ++ dktX5_server_1
theorem dksX5_server_0 : cX5_server.data.toList.drop 0 = dktX5_server_0 := by decide +kernel
theorem dksX5_server_1 : cX5_server.data.toList.drop 23 = dktX5_server_1 := dk_seg dksX5_server_0 23 rfl rfl
theorem dksX5_server_2 : cX5_server.data.toList.drop 46 = dktX5_server_2 := dk_seg dksX5_server_1 23 rfl rfl
theorem dksX5_server_3 : cX5_server.data.toList.drop 68 = dktX5_server_3 := dk_seg dksX5_server_2 22 rfl rfl
theorem dX5_server_0 : decode cX5_server 0 = .ok (.aconst_null, 1) := dk_1 (dk_at dksX5_server_0 0 rfl rfl)
theorem dX5_server_1 : decode cX5_server 1 = .ok (.astore_n 3, 1) := dk_78 (dk_at dksX5_server_0 1 rfl rfl)
theorem dX5_server_2 : decode cX5_server 2 = .ok (.iconst 0, 1) := dk_3 (dk_at dksX5_server_0 2 rfl rfl)
theorem dX5_server_3 : decode cX5_server 3 = .ok (.istore 4, 2) := dk_54 4 (dk_at dksX5_server_0 3 rfl rfl)
theorem dX5_server_5 : decode cX5_server 5 = .ok (.iload 4, 2) := dk_21 4 (dk_at dksX5_server_0 5 rfl rfl)
theorem dX5_server_7 : decode cX5_server 7 = .ok (.aload_n 0, 1) := dk_42 (dk_at dksX5_server_0 7 rfl rfl)
theorem dX5_server_8 : decode cX5_server 8 = .ok (.getfield 38, 3) := dk_180 0 38 (dk_at dksX5_server_0 8 rfl rfl)
theorem dX5_server_11 : decode cX5_server 11 = .ok (.invokevirtual 62, 3) := dk_182 0 62 (dk_at dksX5_server_0 11 rfl rfl)
theorem dX5_server_14 : decode cX5_server 14 = .ok (.if_icmp .ge 69, 3) := dk_162 0 69 (dk_at dksX5_server_0 14 rfl rfl)
theorem dX5_server_17 : decode cX5_server 17 = .ok (.aload_n 0, 1) := dk_42 (dk_at dksX5_server_0 17 rfl rfl)
theorem dX5_server_18 : decode cX5_server 18 = .ok (.getfield 38, 3) := dk_180 0 38 (dk_at dksX5_server_0 18 rfl rfl)
theorem dX5_server_21 : decode cX5_server 21 = .ok (.iload 4, 2) := dk_21 4 (dk_at dksX5_server_0 21 rfl rfl)
theorem dX5_server_23 : decode cX5_server 23 = .ok (.invokevirtual 66, 3) := dk_182 0 66 (dk_at dksX5_server_1 0 rfl rfl)
theorem dX5_server_26 : decode cX5_server 26 = .ok (.checkcast 70, 3) := dk_192 0 70 (dk_at dksX5_server_1 3 rfl rfl)
theorem dX5_server_29 : decode cX5_server 29 = .ok (.astore 5, 2) := dk_58 5 (dk_at dksX5_server_1 6 rfl rfl)
theorem dX5_server_31 : decode cX5_server 31 = .ok (.aload 5, 2) := dk_25 5 (dk_at dksX5_server_1 8 rfl rfl)
theorem dX5_server_33 : decode cX5_server 33 = .ok (.getfield 72, 3) := dk_180 0 72 (dk_at dksX5_server_1 10 rfl rfl)
theorem dX5_server_36 : decode cX5_server 36 = .ok (.iload_n 1, 1) := dk_27 (dk_at dksX5_server_1 13 rfl rfl)
theorem dX5_server_37 : decode cX5_server 37 = .ok (.if_icmp .ne 40, 3) := dk_160 0 40 (dk_at dksX5_server_1 14 rfl rfl)
theorem dX5_server_40 : decode cX5_server 40 = .ok (.aload_n 2, 1) := dk_44 (dk_at dksX5_server_1 17 rfl rfl)
theorem dX5_server_41 : decode cX5_server 41 = .ok (.aload 5, 2) := dk_25 5 (dk_at dksX5_server_1 18 rfl rfl)
theorem dX5_server_43 : decode cX5_server 43 = .ok (.getfield 75, 3) := dk_180 0 75 (dk_at dksX5_server_1 20 rfl rfl)
theorem dX5_server_46 : decode cX5_server 46 = .ok (.invokevirtual 79, 3) := dk_182 0 79 (dk_at dksX5_server_2 0 rfl rfl)
theorem dX5_server_49 : decode cX5_server 49 = .ok (.ifCond .eq 28, 3) := dk_153 0 28 (dk_at dksX5_server_2 3 rfl rfl)
theorem dX5_server_52 : decode cX5_server 52 = .ok (.aload_n 3, 1) := dk_45 (dk_at dksX5_server_2 6 rfl rfl)
theorem dX5_server_53 : decode cX5_server 53 = .ok (.ifnull 21, 3) := dk_198 0 21 (dk_at dksX5_server_2 7 rfl rfl)
theorem dX5_server_56 : decode cX5_server 56 = .ok (.aload 5, 2) := dk_25 5 (dk_at dksX5_server_2 10 rfl rfl)
theorem dX5_server_58 : decode cX5_server 58 = .ok (.getfield 75, 3) := dk_180 0 75 (dk_at dksX5_server_2 12 rfl rfl)
theorem dX5_server_61 : decode cX5_server 61 = .ok (.invokevirtual 85, 3) := dk_182 0 85 (dk_at dksX5_server_2 15 rfl rfl)
theorem dX5_server_64 : decode cX5_server 64 = .ok (.aload_n 3, 1) := dk_45 (dk_at dksX5_server_2 18 rfl rfl)
theorem dX5_server_65 : decode cX5_server 65 = .ok (.getfield 75, 3) := dk_180 0 75 (dk_at dksX5_server_2 19 rfl rfl)
theorem dX5_server_68 : decode cX5_server 68 = .ok (.invokevirtual 85, 3) := dk_182 0 85 (dk_at dksX5_server_3 0 rfl rfl)
theorem dX5_server_71 : decode cX5_server 71 = .ok (.if_icmp .le 6, 3) := dk_164 0 6 (dk_at dksX5_server_3 3 rfl rfl)
theorem dX5_server_74 : decode cX5_server 74 = .ok (.aload 5, 2) := dk_25 5 (dk_at dksX5_server_3 6 rfl rfl)
theorem dX5_server_76 : decode cX5_server 76 = .ok (.astore_n 3, 1) := dk_78 (dk_at dksX5_server_3 8 rfl rfl)
theorem dX5_server_77 : decode cX5_server 77 = .ok (.iinc 4 1, 3) := dk_132 4 1 (dk_at dksX5_server_3 9 rfl rfl)
theorem dX5_server_80 : decode cX5_server 80 = .ok (.goto (-75), 3) := dk_167 255 181 (dk_at dksX5_server_3 12 rfl rfl)
theorem dX5_server_83 : decode cX5_server 83 = .ok (.aload_n 3, 1) := dk_45 (dk_at dksX5_server_3 15 rfl rfl)
theorem dX5_server_84 : decode cX5_server 84 = .ok (.areturn, 1) := dk_176 (dk_at dksX5_server_3 16 rfl rfl)
abbrev cX5_far : ByteArray := prog_13_method_8_code
def yX5_far : MethodName := ⟨RX5, "far", "(II)I"⟩
def dkwX5_far_4 : List UInt8 := [172]
abbrev dktX5_far_4 : List UInt8 := dkwX5_far_4 ++ []
def dkwX5_far_3 : List UInt8 := [167, 255, 221, 132, 4, 1, 167, 255, 197, 45, 28, 46, 18, 93, 160, 0, 7, 2, 167, 0, 6, 45, 28, 46]
abbrev dktX5_far_3 : List UInt8 := dkwX5_far_3 ++ dktX5_far_4
def dkwX5_far_2 : List UInt8 := [185, 0, 104, 1, 0, 192, 0, 108, 58, 6, 42, 45, 25, 6, 3, 46, 25, 6, 4, 46, 182, 0, 109]
abbrev dktX5_far_2 : List UInt8 := dkwX5_far_2 ++ dktX5_far_3
def dkwX5_far_1 : List UInt8 := [162, 0, 56, 42, 180, 0, 28, 182, 0, 94, 58, 5, 25, 5, 185, 0, 98, 1, 0, 153, 0, 31, 25, 5]
abbrev dktX5_far_1 : List UInt8 := dkwX5_far_1 ++ dktX5_far_2
def dkwX5_far_0 : List UInt8 := [16, 6, 188, 10, 78, 45, 18, 93, 184, 0, 41, 45, 27, 3, 79, 3, 54, 4, 21, 4, 42, 180, 0, 9]
abbrev dktX5_far_0 : List UInt8 := dkwX5_far_0 ++ dktX5_far_1
theorem dksX5_far_0 : cX5_far.data.toList.drop 0 = dktX5_far_0 := by decide +kernel
theorem dksX5_far_1 : cX5_far.data.toList.drop 24 = dktX5_far_1 := dk_seg dksX5_far_0 24 rfl rfl
theorem dksX5_far_2 : cX5_far.data.toList.drop 48 = dktX5_far_2 := dk_seg dksX5_far_1 24 rfl rfl
theorem dksX5_far_3 : cX5_far.data.toList.drop 71 = dktX5_far_3 := dk_seg dksX5_far_2 23 rfl rfl
theorem dksX5_far_4 : cX5_far.data.toList.drop 95 = dktX5_far_4 := dk_seg dksX5_far_3 24 rfl rfl
theorem dX5_far_0 : decode cX5_far 0 = .ok (.bipush 6, 2) := dk_16 6 (dk_at dksX5_far_0 0 rfl rfl)
theorem dX5_far_2 : decode cX5_far 2 = .ok (.newarray .int, 2) := dk_188_10 (dk_at dksX5_far_0 2 rfl rfl)
theorem dX5_far_4 : decode cX5_far 4 = .ok (.astore_n 3, 1) := dk_78 (dk_at dksX5_far_0 4 rfl rfl)
theorem dX5_far_5 : decode cX5_far 5 = .ok (.aload_n 3, 1) := dk_45 (dk_at dksX5_far_0 5 rfl rfl)
theorem dX5_far_6 : decode cX5_far 6 = .ok (.ldc 93, 2) := dk_18 93 (dk_at dksX5_far_0 6 rfl rfl)
theorem dX5_far_8 : decode cX5_far 8 = .ok (.invokestatic 41, 3) := dk_184 0 41 (dk_at dksX5_far_0 8 rfl rfl)
theorem dX5_far_11 : decode cX5_far 11 = .ok (.aload_n 3, 1) := dk_45 (dk_at dksX5_far_0 11 rfl rfl)
theorem dX5_far_12 : decode cX5_far 12 = .ok (.iload_n 1, 1) := dk_27 (dk_at dksX5_far_0 12 rfl rfl)
theorem dX5_far_13 : decode cX5_far 13 = .ok (.iconst 0, 1) := dk_3 (dk_at dksX5_far_0 13 rfl rfl)
theorem dX5_far_14 : decode cX5_far 14 = .ok (.iastore, 1) := dk_79 (dk_at dksX5_far_0 14 rfl rfl)
theorem dX5_far_15 : decode cX5_far 15 = .ok (.iconst 0, 1) := dk_3 (dk_at dksX5_far_0 15 rfl rfl)
theorem dX5_far_16 : decode cX5_far 16 = .ok (.istore 4, 2) := dk_54 4 (dk_at dksX5_far_0 16 rfl rfl)
theorem dX5_far_18 : decode cX5_far 18 = .ok (.iload 4, 2) := dk_21 4 (dk_at dksX5_far_0 18 rfl rfl)
theorem dX5_far_20 : decode cX5_far 20 = .ok (.aload_n 0, 1) := dk_42 (dk_at dksX5_far_0 20 rfl rfl)
theorem dX5_far_21 : decode cX5_far 21 = .ok (.getfield 9, 3) := dk_180 0 9 (dk_at dksX5_far_0 21 rfl rfl)
theorem dX5_far_24 : decode cX5_far 24 = .ok (.if_icmp .ge 56, 3) := dk_162 0 56 (dk_at dksX5_far_1 0 rfl rfl)
theorem dX5_far_27 : decode cX5_far 27 = .ok (.aload_n 0, 1) := dk_42 (dk_at dksX5_far_1 3 rfl rfl)
theorem dX5_far_28 : decode cX5_far 28 = .ok (.getfield 28, 3) := dk_180 0 28 (dk_at dksX5_far_1 4 rfl rfl)
theorem dX5_far_31 : decode cX5_far 31 = .ok (.invokevirtual 94, 3) := dk_182 0 94 (dk_at dksX5_far_1 7 rfl rfl)
theorem dX5_far_34 : decode cX5_far 34 = .ok (.astore 5, 2) := dk_58 5 (dk_at dksX5_far_1 10 rfl rfl)
theorem dX5_far_36 : decode cX5_far 36 = .ok (.aload 5, 2) := dk_25 5 (dk_at dksX5_far_1 12 rfl rfl)
theorem dX5_far_38 : decode cX5_far 38 = .ok (.invokeinterface 98 1, 5) := by decide +kernel
theorem dX5_far_43 : decode cX5_far 43 = .ok (.ifCond .eq 31, 3) := dk_153 0 31 (dk_at dksX5_far_1 19 rfl rfl)
theorem dX5_far_46 : decode cX5_far 46 = .ok (.aload 5, 2) := dk_25 5 (dk_at dksX5_far_1 22 rfl rfl)
theorem dX5_far_48 : decode cX5_far 48 = .ok (.invokeinterface 104 1, 5) := by decide +kernel
theorem dX5_far_53 : decode cX5_far 53 = .ok (.checkcast 108, 3) := dk_192 0 108 (dk_at dksX5_far_2 5 rfl rfl)
theorem dX5_far_56 : decode cX5_far 56 = .ok (.astore 6, 2) := dk_58 6 (dk_at dksX5_far_2 8 rfl rfl)
theorem dX5_far_58 : decode cX5_far 58 = .ok (.aload_n 0, 1) := dk_42 (dk_at dksX5_far_2 10 rfl rfl)
theorem dX5_far_59 : decode cX5_far 59 = .ok (.aload_n 3, 1) := dk_45 (dk_at dksX5_far_2 11 rfl rfl)
theorem dX5_far_60 : decode cX5_far 60 = .ok (.aload 6, 2) := dk_25 6 (dk_at dksX5_far_2 12 rfl rfl)
theorem dX5_far_62 : decode cX5_far 62 = .ok (.iconst 0, 1) := dk_3 (dk_at dksX5_far_2 14 rfl rfl)
theorem dX5_far_63 : decode cX5_far 63 = .ok (.iaload, 1) := dk_46 (dk_at dksX5_far_2 15 rfl rfl)
theorem dX5_far_64 : decode cX5_far 64 = .ok (.aload 6, 2) := dk_25 6 (dk_at dksX5_far_2 16 rfl rfl)
theorem dX5_far_66 : decode cX5_far 66 = .ok (.iconst 1, 1) := dk_4 (dk_at dksX5_far_2 18 rfl rfl)
theorem dX5_far_67 : decode cX5_far 67 = .ok (.iaload, 1) := dk_46 (dk_at dksX5_far_2 19 rfl rfl)
theorem dX5_far_68 : decode cX5_far 68 = .ok (.invokevirtual 109, 3) := dk_182 0 109 (dk_at dksX5_far_2 20 rfl rfl)
theorem dX5_far_71 : decode cX5_far 71 = .ok (.goto (-35), 3) := dk_167 255 221 (dk_at dksX5_far_3 0 rfl rfl)
theorem dX5_far_74 : decode cX5_far 74 = .ok (.iinc 4 1, 3) := dk_132 4 1 (dk_at dksX5_far_3 3 rfl rfl)
theorem dX5_far_77 : decode cX5_far 77 = .ok (.goto (-59), 3) := dk_167 255 197 (dk_at dksX5_far_3 6 rfl rfl)
theorem dX5_far_80 : decode cX5_far 80 = .ok (.aload_n 3, 1) := dk_45 (dk_at dksX5_far_3 9 rfl rfl)
theorem dX5_far_81 : decode cX5_far 81 = .ok (.iload_n 2, 1) := dk_28 (dk_at dksX5_far_3 10 rfl rfl)
theorem dX5_far_82 : decode cX5_far 82 = .ok (.iaload, 1) := dk_46 (dk_at dksX5_far_3 11 rfl rfl)
theorem dX5_far_83 : decode cX5_far 83 = .ok (.ldc 93, 2) := dk_18 93 (dk_at dksX5_far_3 12 rfl rfl)
theorem dX5_far_85 : decode cX5_far 85 = .ok (.if_icmp .ne 7, 3) := dk_160 0 7 (dk_at dksX5_far_3 14 rfl rfl)
theorem dX5_far_88 : decode cX5_far 88 = .ok (.iconst (-1), 1) := dk_2 (dk_at dksX5_far_3 17 rfl rfl)
theorem dX5_far_89 : decode cX5_far 89 = .ok (.goto 6, 3) := dk_167 0 6 (dk_at dksX5_far_3 18 rfl rfl)
theorem dX5_far_92 : decode cX5_far 92 = .ok (.aload_n 3, 1) := dk_45 (dk_at dksX5_far_3 21 rfl rfl)
theorem dX5_far_93 : decode cX5_far 93 = .ok (.iload_n 2, 1) := dk_28 (dk_at dksX5_far_3 22 rfl rfl)
theorem dX5_far_94 : decode cX5_far 94 = .ok (.iaload, 1) := dk_46 (dk_at dksX5_far_3 23 rfl rfl)
theorem dX5_far_95 : decode cX5_far 95 = .ok (.ireturn, 1) := dk_172 (dk_at dksX5_far_4 0 rfl rfl)
abbrev cX5_nears : ByteArray := prog_13_method_9_code
def yX5_nears : MethodName := ⟨RX5, "nears", "([III)V"⟩
def dkwX5_nears_1 : List UInt8 := [43, 29, 46, 42, 28, 29, 182, 0, 55, 96, 184, 0, 113, 79, 177]
abbrev dktX5_nears_1 : List UInt8 := dkwX5_nears_1 ++ []
def dkwX5_nears_0 : List UInt8 := [43, 29, 43, 29, 46, 43, 28, 46, 42, 28, 29, 182, 0, 55, 96, 184, 0, 113, 79, 43, 28, 43, 28, 46]
abbrev dktX5_nears_0 : List UInt8 := dkwX5_nears_0 ++ dktX5_nears_1
theorem dksX5_nears_0 : cX5_nears.data.toList.drop 0 = dktX5_nears_0 := by decide +kernel
theorem dksX5_nears_1 : cX5_nears.data.toList.drop 24 = dktX5_nears_1 := dk_seg dksX5_nears_0 24 rfl rfl
theorem dX5_nears_0 : decode cX5_nears 0 = .ok (.aload_n 1, 1) := dk_43 (dk_at dksX5_nears_0 0 rfl rfl)
theorem dX5_nears_1 : decode cX5_nears 1 = .ok (.iload_n 3, 1) := dk_29 (dk_at dksX5_nears_0 1 rfl rfl)
theorem dX5_nears_2 : decode cX5_nears 2 = .ok (.aload_n 1, 1) := dk_43 (dk_at dksX5_nears_0 2 rfl rfl)
theorem dX5_nears_3 : decode cX5_nears 3 = .ok (.iload_n 3, 1) := dk_29 (dk_at dksX5_nears_0 3 rfl rfl)
theorem dX5_nears_4 : decode cX5_nears 4 = .ok (.iaload, 1) := dk_46 (dk_at dksX5_nears_0 4 rfl rfl)
theorem dX5_nears_5 : decode cX5_nears 5 = .ok (.aload_n 1, 1) := dk_43 (dk_at dksX5_nears_0 5 rfl rfl)
theorem dX5_nears_6 : decode cX5_nears 6 = .ok (.iload_n 2, 1) := dk_28 (dk_at dksX5_nears_0 6 rfl rfl)
theorem dX5_nears_7 : decode cX5_nears 7 = .ok (.iaload, 1) := dk_46 (dk_at dksX5_nears_0 7 rfl rfl)
theorem dX5_nears_8 : decode cX5_nears 8 = .ok (.aload_n 0, 1) := dk_42 (dk_at dksX5_nears_0 8 rfl rfl)
theorem dX5_nears_9 : decode cX5_nears 9 = .ok (.iload_n 2, 1) := dk_28 (dk_at dksX5_nears_0 9 rfl rfl)
theorem dX5_nears_10 : decode cX5_nears 10 = .ok (.iload_n 3, 1) := dk_29 (dk_at dksX5_nears_0 10 rfl rfl)
theorem dX5_nears_11 : decode cX5_nears 11 = .ok (.invokevirtual 55, 3) := dk_182 0 55 (dk_at dksX5_nears_0 11 rfl rfl)
theorem dX5_nears_14 : decode cX5_nears 14 = .ok (.iadd, 1) := dk_96 (dk_at dksX5_nears_0 14 rfl rfl)
theorem dX5_nears_15 : decode cX5_nears 15 = .ok (.invokestatic 113, 3) := dk_184 0 113 (dk_at dksX5_nears_0 15 rfl rfl)
theorem dX5_nears_18 : decode cX5_nears 18 = .ok (.iastore, 1) := dk_79 (dk_at dksX5_nears_0 18 rfl rfl)
theorem dX5_nears_19 : decode cX5_nears 19 = .ok (.aload_n 1, 1) := dk_43 (dk_at dksX5_nears_0 19 rfl rfl)
theorem dX5_nears_20 : decode cX5_nears 20 = .ok (.iload_n 2, 1) := dk_28 (dk_at dksX5_nears_0 20 rfl rfl)
theorem dX5_nears_21 : decode cX5_nears 21 = .ok (.aload_n 1, 1) := dk_43 (dk_at dksX5_nears_0 21 rfl rfl)
theorem dX5_nears_22 : decode cX5_nears 22 = .ok (.iload_n 2, 1) := dk_28 (dk_at dksX5_nears_0 22 rfl rfl)
theorem dX5_nears_23 : decode cX5_nears 23 = .ok (.iaload, 1) := dk_46 (dk_at dksX5_nears_0 23 rfl rfl)
theorem dX5_nears_24 : decode cX5_nears 24 = .ok (.aload_n 1, 1) := dk_43 (dk_at dksX5_nears_1 0 rfl rfl)
theorem dX5_nears_25 : decode cX5_nears 25 = .ok (.iload_n 3, 1) := dk_29 (dk_at dksX5_nears_1 1 rfl rfl)
theorem dX5_nears_26 : decode cX5_nears 26 = .ok (.iaload, 1) := dk_46 (dk_at dksX5_nears_1 2 rfl rfl)
theorem dX5_nears_27 : decode cX5_nears 27 = .ok (.aload_n 0, 1) := dk_42 (dk_at dksX5_nears_1 3 rfl rfl)
theorem dX5_nears_28 : decode cX5_nears 28 = .ok (.iload_n 2, 1) := dk_28 (dk_at dksX5_nears_1 4 rfl rfl)
theorem dX5_nears_29 : decode cX5_nears 29 = .ok (.iload_n 3, 1) := dk_29 (dk_at dksX5_nears_1 5 rfl rfl)
theorem dX5_nears_30 : decode cX5_nears 30 = .ok (.invokevirtual 55, 3) := dk_182 0 55 (dk_at dksX5_nears_1 6 rfl rfl)
theorem dX5_nears_33 : decode cX5_nears 33 = .ok (.iadd, 1) := dk_96 (dk_at dksX5_nears_1 9 rfl rfl)
theorem dX5_nears_34 : decode cX5_nears 34 = .ok (.invokestatic 113, 3) := dk_184 0 113 (dk_at dksX5_nears_1 10 rfl rfl)
theorem dX5_nears_37 : decode cX5_nears 37 = .ok (.iastore, 1) := dk_79 (dk_at dksX5_nears_1 13 rfl rfl)
theorem dX5_nears_38 : decode cX5_nears 38 = .ok (.return_, 1) := dk_177 (dk_at dksX5_nears_1 14 rfl rfl)
abbrev cX5_edges : ByteArray := prog_13_method_13_code
def yX5_edges : MethodName := ⟨RX5, "edges", "()I"⟩
def dkwX5_edges_1 : List UInt8 := [185, 0, 104, 1, 0, 192, 0, 70, 78, 27, 4, 45, 180, 0, 72, 120, 128, 60, 167, 255, 228, 27, 172]
abbrev dktX5_edges_1 : List UInt8 := dkwX5_edges_1 ++ []
def dkwX5_edges_0 : List UInt8 := [3, 60, 42, 180, 0, 38, 182, 0, 94, 77, 44, 185, 0, 98, 1, 0, 153, 0, 25, 44]
abbrev dktX5_edges_0 : List UInt8 := dkwX5_edges_0 ++ dktX5_edges_1
theorem dksX5_edges_0 : cX5_edges.data.toList.drop 0 = dktX5_edges_0 := by decide +kernel
theorem dksX5_edges_1 : cX5_edges.data.toList.drop 20 = dktX5_edges_1 := dk_seg dksX5_edges_0 20 rfl rfl
theorem dX5_edges_0 : decode cX5_edges 0 = .ok (.iconst 0, 1) := dk_3 (dk_at dksX5_edges_0 0 rfl rfl)
theorem dX5_edges_1 : decode cX5_edges 1 = .ok (.istore_n 1, 1) := dk_60 (dk_at dksX5_edges_0 1 rfl rfl)
theorem dX5_edges_2 : decode cX5_edges 2 = .ok (.aload_n 0, 1) := dk_42 (dk_at dksX5_edges_0 2 rfl rfl)
theorem dX5_edges_3 : decode cX5_edges 3 = .ok (.getfield 38, 3) := dk_180 0 38 (dk_at dksX5_edges_0 3 rfl rfl)
theorem dX5_edges_6 : decode cX5_edges 6 = .ok (.invokevirtual 94, 3) := dk_182 0 94 (dk_at dksX5_edges_0 6 rfl rfl)
theorem dX5_edges_9 : decode cX5_edges 9 = .ok (.astore_n 2, 1) := dk_77 (dk_at dksX5_edges_0 9 rfl rfl)
theorem dX5_edges_10 : decode cX5_edges 10 = .ok (.aload_n 2, 1) := dk_44 (dk_at dksX5_edges_0 10 rfl rfl)
theorem dX5_edges_11 : decode cX5_edges 11 = .ok (.invokeinterface 98 1, 5) := by decide +kernel
theorem dX5_edges_16 : decode cX5_edges 16 = .ok (.ifCond .eq 25, 3) := dk_153 0 25 (dk_at dksX5_edges_0 16 rfl rfl)
theorem dX5_edges_19 : decode cX5_edges 19 = .ok (.aload_n 2, 1) := dk_44 (dk_at dksX5_edges_0 19 rfl rfl)
theorem dX5_edges_20 : decode cX5_edges 20 = .ok (.invokeinterface 104 1, 5) := by decide +kernel
theorem dX5_edges_25 : decode cX5_edges 25 = .ok (.checkcast 70, 3) := dk_192 0 70 (dk_at dksX5_edges_1 5 rfl rfl)
theorem dX5_edges_28 : decode cX5_edges 28 = .ok (.astore_n 3, 1) := dk_78 (dk_at dksX5_edges_1 8 rfl rfl)
theorem dX5_edges_29 : decode cX5_edges 29 = .ok (.iload_n 1, 1) := dk_27 (dk_at dksX5_edges_1 9 rfl rfl)
theorem dX5_edges_30 : decode cX5_edges 30 = .ok (.iconst 1, 1) := dk_4 (dk_at dksX5_edges_1 10 rfl rfl)
theorem dX5_edges_31 : decode cX5_edges 31 = .ok (.aload_n 3, 1) := dk_45 (dk_at dksX5_edges_1 11 rfl rfl)
theorem dX5_edges_32 : decode cX5_edges 32 = .ok (.getfield 72, 3) := dk_180 0 72 (dk_at dksX5_edges_1 12 rfl rfl)
theorem dX5_edges_35 : decode cX5_edges 35 = .ok (.ishl, 1) := dk_120 (dk_at dksX5_edges_1 15 rfl rfl)
theorem dX5_edges_36 : decode cX5_edges 36 = .ok (.ior, 1) := dk_128 (dk_at dksX5_edges_1 16 rfl rfl)
theorem dX5_edges_37 : decode cX5_edges 37 = .ok (.istore_n 1, 1) := dk_60 (dk_at dksX5_edges_1 17 rfl rfl)
theorem dX5_edges_38 : decode cX5_edges 38 = .ok (.goto (-28), 3) := dk_167 255 228 (dk_at dksX5_edges_1 18 rfl rfl)
theorem dX5_edges_41 : decode cX5_edges 41 = .ok (.iload_n 1, 1) := dk_27 (dk_at dksX5_edges_1 21 rfl rfl)
theorem dX5_edges_42 : decode cX5_edges 42 = .ok (.ireturn, 1) := dk_172 (dk_at dksX5_edges_1 22 rfl rfl)
abbrev cX5_leaves : ByteArray := prog_13_method_14_code
def yX5_leaves : MethodName := ⟨RX5, "leaves", "()I"⟩
def dkwX5_leaves_3 : List UInt8 := [27, 172]
abbrev dktX5_leaves_3 : List UInt8 := dkwX5_leaves_3 ++ []
def dkwX5_leaves_2 : List UInt8 := [167, 255, 226, 27, 29, 4, 160, 0, 9, 4, 28, 120, 167, 0, 4, 3, 128, 60, 132, 2, 1, 167, 255, 192]
abbrev dktX5_leaves_2 : List UInt8 := dkwX5_leaves_2 ++ dktX5_leaves_3
def dkwX5_leaves_1 : List UInt8 := [162, 0, 27, 29, 42, 28, 21, 4, 182, 0, 55, 158, 0, 7, 4, 167, 0, 4, 3, 96, 62, 132, 4, 1]
abbrev dktX5_leaves_1 : List UInt8 := dkwX5_leaves_1 ++ dktX5_leaves_2
def dkwX5_leaves_0 : List UInt8 := [3, 60, 3, 61, 28, 42, 180, 0, 9, 162, 0, 62, 3, 62, 3, 54, 4, 21, 4, 42, 180, 0, 9]
abbrev dktX5_leaves_0 : List UInt8 := dkwX5_leaves_0 ++ dktX5_leaves_1
theorem dksX5_leaves_0 : cX5_leaves.data.toList.drop 0 = dktX5_leaves_0 := by decide +kernel
theorem dksX5_leaves_1 : cX5_leaves.data.toList.drop 23 = dktX5_leaves_1 := dk_seg dksX5_leaves_0 23 rfl rfl
theorem dksX5_leaves_2 : cX5_leaves.data.toList.drop 47 = dktX5_leaves_2 := dk_seg dksX5_leaves_1 24 rfl rfl
theorem dksX5_leaves_3 : cX5_leaves.data.toList.drop 71 = dktX5_leaves_3 := dk_seg dksX5_leaves_2 24 rfl rfl
theorem dX5_leaves_0 : decode cX5_leaves 0 = .ok (.iconst 0, 1) := dk_3 (dk_at dksX5_leaves_0 0 rfl rfl)
theorem dX5_leaves_1 : decode cX5_leaves 1 = .ok (.istore_n 1, 1) := dk_60 (dk_at dksX5_leaves_0 1 rfl rfl)
theorem dX5_leaves_2 : decode cX5_leaves 2 = .ok (.iconst 0, 1) := dk_3 (dk_at dksX5_leaves_0 2 rfl rfl)
theorem dX5_leaves_3 : decode cX5_leaves 3 = .ok (.istore_n 2, 1) := dk_61 (dk_at dksX5_leaves_0 3 rfl rfl)
theorem dX5_leaves_4 : decode cX5_leaves 4 = .ok (.iload_n 2, 1) := dk_28 (dk_at dksX5_leaves_0 4 rfl rfl)
theorem dX5_leaves_5 : decode cX5_leaves 5 = .ok (.aload_n 0, 1) := dk_42 (dk_at dksX5_leaves_0 5 rfl rfl)
theorem dX5_leaves_6 : decode cX5_leaves 6 = .ok (.getfield 9, 3) := dk_180 0 9 (dk_at dksX5_leaves_0 6 rfl rfl)
theorem dX5_leaves_9 : decode cX5_leaves 9 = .ok (.if_icmp .ge 62, 3) := dk_162 0 62 (dk_at dksX5_leaves_0 9 rfl rfl)
theorem dX5_leaves_12 : decode cX5_leaves 12 = .ok (.iconst 0, 1) := dk_3 (dk_at dksX5_leaves_0 12 rfl rfl)
theorem dX5_leaves_13 : decode cX5_leaves 13 = .ok (.istore_n 3, 1) := dk_62 (dk_at dksX5_leaves_0 13 rfl rfl)
theorem dX5_leaves_14 : decode cX5_leaves 14 = .ok (.iconst 0, 1) := dk_3 (dk_at dksX5_leaves_0 14 rfl rfl)
theorem dX5_leaves_15 : decode cX5_leaves 15 = .ok (.istore 4, 2) := dk_54 4 (dk_at dksX5_leaves_0 15 rfl rfl)
theorem dX5_leaves_17 : decode cX5_leaves 17 = .ok (.iload 4, 2) := dk_21 4 (dk_at dksX5_leaves_0 17 rfl rfl)
theorem dX5_leaves_19 : decode cX5_leaves 19 = .ok (.aload_n 0, 1) := dk_42 (dk_at dksX5_leaves_0 19 rfl rfl)
theorem dX5_leaves_20 : decode cX5_leaves 20 = .ok (.getfield 9, 3) := dk_180 0 9 (dk_at dksX5_leaves_0 20 rfl rfl)
theorem dX5_leaves_23 : decode cX5_leaves 23 = .ok (.if_icmp .ge 27, 3) := dk_162 0 27 (dk_at dksX5_leaves_1 0 rfl rfl)
theorem dX5_leaves_26 : decode cX5_leaves 26 = .ok (.iload_n 3, 1) := dk_29 (dk_at dksX5_leaves_1 3 rfl rfl)
theorem dX5_leaves_27 : decode cX5_leaves 27 = .ok (.aload_n 0, 1) := dk_42 (dk_at dksX5_leaves_1 4 rfl rfl)
theorem dX5_leaves_28 : decode cX5_leaves 28 = .ok (.iload_n 2, 1) := dk_28 (dk_at dksX5_leaves_1 5 rfl rfl)
theorem dX5_leaves_29 : decode cX5_leaves 29 = .ok (.iload 4, 2) := dk_21 4 (dk_at dksX5_leaves_1 6 rfl rfl)
theorem dX5_leaves_31 : decode cX5_leaves 31 = .ok (.invokevirtual 55, 3) := dk_182 0 55 (dk_at dksX5_leaves_1 8 rfl rfl)
theorem dX5_leaves_34 : decode cX5_leaves 34 = .ok (.ifCond .le 7, 3) := dk_158 0 7 (dk_at dksX5_leaves_1 11 rfl rfl)
theorem dX5_leaves_37 : decode cX5_leaves 37 = .ok (.iconst 1, 1) := dk_4 (dk_at dksX5_leaves_1 14 rfl rfl)
theorem dX5_leaves_38 : decode cX5_leaves 38 = .ok (.goto 4, 3) := dk_167 0 4 (dk_at dksX5_leaves_1 15 rfl rfl)
theorem dX5_leaves_41 : decode cX5_leaves 41 = .ok (.iconst 0, 1) := dk_3 (dk_at dksX5_leaves_1 18 rfl rfl)
theorem dX5_leaves_42 : decode cX5_leaves 42 = .ok (.iadd, 1) := dk_96 (dk_at dksX5_leaves_1 19 rfl rfl)
theorem dX5_leaves_43 : decode cX5_leaves 43 = .ok (.istore_n 3, 1) := dk_62 (dk_at dksX5_leaves_1 20 rfl rfl)
theorem dX5_leaves_44 : decode cX5_leaves 44 = .ok (.iinc 4 1, 3) := dk_132 4 1 (dk_at dksX5_leaves_1 21 rfl rfl)
theorem dX5_leaves_47 : decode cX5_leaves 47 = .ok (.goto (-30), 3) := dk_167 255 226 (dk_at dksX5_leaves_2 0 rfl rfl)
theorem dX5_leaves_50 : decode cX5_leaves 50 = .ok (.iload_n 1, 1) := dk_27 (dk_at dksX5_leaves_2 3 rfl rfl)
theorem dX5_leaves_51 : decode cX5_leaves 51 = .ok (.iload_n 3, 1) := dk_29 (dk_at dksX5_leaves_2 4 rfl rfl)
theorem dX5_leaves_52 : decode cX5_leaves 52 = .ok (.iconst 1, 1) := dk_4 (dk_at dksX5_leaves_2 5 rfl rfl)
theorem dX5_leaves_53 : decode cX5_leaves 53 = .ok (.if_icmp .ne 9, 3) := dk_160 0 9 (dk_at dksX5_leaves_2 6 rfl rfl)
theorem dX5_leaves_56 : decode cX5_leaves 56 = .ok (.iconst 1, 1) := dk_4 (dk_at dksX5_leaves_2 9 rfl rfl)
theorem dX5_leaves_57 : decode cX5_leaves 57 = .ok (.iload_n 2, 1) := dk_28 (dk_at dksX5_leaves_2 10 rfl rfl)
theorem dX5_leaves_58 : decode cX5_leaves 58 = .ok (.ishl, 1) := dk_120 (dk_at dksX5_leaves_2 11 rfl rfl)
theorem dX5_leaves_59 : decode cX5_leaves 59 = .ok (.goto 4, 3) := dk_167 0 4 (dk_at dksX5_leaves_2 12 rfl rfl)
theorem dX5_leaves_62 : decode cX5_leaves 62 = .ok (.iconst 0, 1) := dk_3 (dk_at dksX5_leaves_2 15 rfl rfl)
theorem dX5_leaves_63 : decode cX5_leaves 63 = .ok (.ior, 1) := dk_128 (dk_at dksX5_leaves_2 16 rfl rfl)
theorem dX5_leaves_64 : decode cX5_leaves 64 = .ok (.istore_n 1, 1) := dk_60 (dk_at dksX5_leaves_2 17 rfl rfl)
theorem dX5_leaves_65 : decode cX5_leaves 65 = .ok (.iinc 2 1, 3) := dk_132 2 1 (dk_at dksX5_leaves_2 18 rfl rfl)
theorem dX5_leaves_68 : decode cX5_leaves 68 = .ok (.goto (-64), 3) := dk_167 255 192 (dk_at dksX5_leaves_2 21 rfl rfl)
theorem dX5_leaves_71 : decode cX5_leaves 71 = .ok (.iload_n 1, 1) := dk_27 (dk_at dksX5_leaves_3 0 rfl rfl)
theorem dX5_leaves_72 : decode cX5_leaves 72 = .ok (.ireturn, 1) := dk_172 (dk_at dksX5_leaves_3 1 rfl rfl)
abbrev cX5_blind : ByteArray := prog_13_method_15_code
def yX5_blind : MethodName := ⟨RX5, "blind", "()I"⟩
def dkwX5_blind_2 : List UInt8 := [182, 0, 55, 154, 0, 9, 4, 28, 120, 167, 0, 4, 3, 128, 60, 132, 2, 1, 167, 255, 197, 27, 172]
abbrev dktX5_blind_2 : List UInt8 := dkwX5_blind_2 ++ []
def dkwX5_blind_1 : List UInt8 := [182, 0, 66, 192, 0, 70, 180, 0, 72, 42, 180, 0, 35, 28, 182, 0, 66, 192, 0, 70, 180, 0, 124]
abbrev dktX5_blind_1 : List UInt8 := dkwX5_blind_1 ++ dktX5_blind_2
def dkwX5_blind_0 : List UInt8 := [3, 60, 3, 61, 28, 42, 180, 0, 35, 182, 0, 62, 162, 0, 54, 27, 42, 42, 180, 0, 35, 28]
abbrev dktX5_blind_0 : List UInt8 := dkwX5_blind_0 ++ dktX5_blind_1
theorem dksX5_blind_0 : cX5_blind.data.toList.drop 0 = dktX5_blind_0 := by decide +kernel
theorem dksX5_blind_1 : cX5_blind.data.toList.drop 22 = dktX5_blind_1 := dk_seg dksX5_blind_0 22 rfl rfl
theorem dksX5_blind_2 : cX5_blind.data.toList.drop 45 = dktX5_blind_2 := dk_seg dksX5_blind_1 23 rfl rfl
theorem dX5_blind_0 : decode cX5_blind 0 = .ok (.iconst 0, 1) := dk_3 (dk_at dksX5_blind_0 0 rfl rfl)
theorem dX5_blind_1 : decode cX5_blind 1 = .ok (.istore_n 1, 1) := dk_60 (dk_at dksX5_blind_0 1 rfl rfl)
theorem dX5_blind_2 : decode cX5_blind 2 = .ok (.iconst 0, 1) := dk_3 (dk_at dksX5_blind_0 2 rfl rfl)
theorem dX5_blind_3 : decode cX5_blind 3 = .ok (.istore_n 2, 1) := dk_61 (dk_at dksX5_blind_0 3 rfl rfl)
theorem dX5_blind_4 : decode cX5_blind 4 = .ok (.iload_n 2, 1) := dk_28 (dk_at dksX5_blind_0 4 rfl rfl)
theorem dX5_blind_5 : decode cX5_blind 5 = .ok (.aload_n 0, 1) := dk_42 (dk_at dksX5_blind_0 5 rfl rfl)
theorem dX5_blind_6 : decode cX5_blind 6 = .ok (.getfield 35, 3) := dk_180 0 35 (dk_at dksX5_blind_0 6 rfl rfl)
theorem dX5_blind_9 : decode cX5_blind 9 = .ok (.invokevirtual 62, 3) := dk_182 0 62 (dk_at dksX5_blind_0 9 rfl rfl)
theorem dX5_blind_12 : decode cX5_blind 12 = .ok (.if_icmp .ge 54, 3) := dk_162 0 54 (dk_at dksX5_blind_0 12 rfl rfl)
theorem dX5_blind_15 : decode cX5_blind 15 = .ok (.iload_n 1, 1) := dk_27 (dk_at dksX5_blind_0 15 rfl rfl)
theorem dX5_blind_16 : decode cX5_blind 16 = .ok (.aload_n 0, 1) := dk_42 (dk_at dksX5_blind_0 16 rfl rfl)
theorem dX5_blind_17 : decode cX5_blind 17 = .ok (.aload_n 0, 1) := dk_42 (dk_at dksX5_blind_0 17 rfl rfl)
theorem dX5_blind_18 : decode cX5_blind 18 = .ok (.getfield 35, 3) := dk_180 0 35 (dk_at dksX5_blind_0 18 rfl rfl)
theorem dX5_blind_21 : decode cX5_blind 21 = .ok (.iload_n 2, 1) := dk_28 (dk_at dksX5_blind_0 21 rfl rfl)
theorem dX5_blind_22 : decode cX5_blind 22 = .ok (.invokevirtual 66, 3) := dk_182 0 66 (dk_at dksX5_blind_1 0 rfl rfl)
theorem dX5_blind_25 : decode cX5_blind 25 = .ok (.checkcast 70, 3) := dk_192 0 70 (dk_at dksX5_blind_1 3 rfl rfl)
theorem dX5_blind_28 : decode cX5_blind 28 = .ok (.getfield 72, 3) := dk_180 0 72 (dk_at dksX5_blind_1 6 rfl rfl)
theorem dX5_blind_31 : decode cX5_blind 31 = .ok (.aload_n 0, 1) := dk_42 (dk_at dksX5_blind_1 9 rfl rfl)
theorem dX5_blind_32 : decode cX5_blind 32 = .ok (.getfield 35, 3) := dk_180 0 35 (dk_at dksX5_blind_1 10 rfl rfl)
theorem dX5_blind_35 : decode cX5_blind 35 = .ok (.iload_n 2, 1) := dk_28 (dk_at dksX5_blind_1 13 rfl rfl)
theorem dX5_blind_36 : decode cX5_blind 36 = .ok (.invokevirtual 66, 3) := dk_182 0 66 (dk_at dksX5_blind_1 14 rfl rfl)
theorem dX5_blind_39 : decode cX5_blind 39 = .ok (.checkcast 70, 3) := dk_192 0 70 (dk_at dksX5_blind_1 17 rfl rfl)
theorem dX5_blind_42 : decode cX5_blind 42 = .ok (.getfield 124, 3) := dk_180 0 124 (dk_at dksX5_blind_1 20 rfl rfl)
theorem dX5_blind_45 : decode cX5_blind 45 = .ok (.invokevirtual 55, 3) := dk_182 0 55 (dk_at dksX5_blind_2 0 rfl rfl)
theorem dX5_blind_48 : decode cX5_blind 48 = .ok (.ifCond .ne 9, 3) := dk_154 0 9 (dk_at dksX5_blind_2 3 rfl rfl)
theorem dX5_blind_51 : decode cX5_blind 51 = .ok (.iconst 1, 1) := dk_4 (dk_at dksX5_blind_2 6 rfl rfl)
theorem dX5_blind_52 : decode cX5_blind 52 = .ok (.iload_n 2, 1) := dk_28 (dk_at dksX5_blind_2 7 rfl rfl)
theorem dX5_blind_53 : decode cX5_blind 53 = .ok (.ishl, 1) := dk_120 (dk_at dksX5_blind_2 8 rfl rfl)
theorem dX5_blind_54 : decode cX5_blind 54 = .ok (.goto 4, 3) := dk_167 0 4 (dk_at dksX5_blind_2 9 rfl rfl)
theorem dX5_blind_57 : decode cX5_blind 57 = .ok (.iconst 0, 1) := dk_3 (dk_at dksX5_blind_2 12 rfl rfl)
theorem dX5_blind_58 : decode cX5_blind 58 = .ok (.ior, 1) := dk_128 (dk_at dksX5_blind_2 13 rfl rfl)
theorem dX5_blind_59 : decode cX5_blind 59 = .ok (.istore_n 1, 1) := dk_60 (dk_at dksX5_blind_2 14 rfl rfl)
theorem dX5_blind_60 : decode cX5_blind 60 = .ok (.iinc 2 1, 3) := dk_132 2 1 (dk_at dksX5_blind_2 15 rfl rfl)
theorem dX5_blind_63 : decode cX5_blind 63 = .ok (.goto (-59), 3) := dk_167 255 197 (dk_at dksX5_blind_2 18 rfl rfl)
theorem dX5_blind_66 : decode cX5_blind 66 = .ok (.iload_n 1, 1) := dk_27 (dk_at dksX5_blind_2 21 rfl rfl)
theorem dX5_blind_67 : decode cX5_blind 67 = .ok (.ireturn, 1) := dk_172 (dk_at dksX5_blind_2 22 rfl rfl)
abbrev cX5_hidden : ByteArray := prog_13_method_16_code
def yX5_hidden : MethodName := ⟨RX5, "hidden", "()I"⟩
def dkwX5_hidden_3 : List UInt8 := [27, 172]
abbrev dktX5_hidden_3 : List UInt8 := dkwX5_hidden_3 ++ []
def dkwX5_hidden_2 : List UInt8 := [153, 0, 9, 4, 28, 120, 167, 0, 4, 3, 128, 60, 132, 3, 1, 167, 255, 210, 132, 2, 1, 167, 255, 191]
abbrev dktX5_hidden_2 : List UInt8 := dkwX5_hidden_2 ++ dktX5_hidden_3
def dkwX5_hidden_1 : List UInt8 := [180, 0, 35, 28, 182, 0, 66, 192, 0, 70, 42, 180, 0, 35, 29, 182, 0, 66, 192, 0, 70, 182, 0, 127]
abbrev dktX5_hidden_1 : List UInt8 := dkwX5_hidden_1 ++ dktX5_hidden_2
def dkwX5_hidden_0 : List UInt8 := [3, 60, 3, 61, 28, 42, 180, 0, 35, 182, 0, 62, 162, 0, 60, 3, 62, 29, 28, 162, 0, 47, 27, 42]
abbrev dktX5_hidden_0 : List UInt8 := dkwX5_hidden_0 ++ dktX5_hidden_1
theorem dksX5_hidden_0 : cX5_hidden.data.toList.drop 0 = dktX5_hidden_0 := by decide +kernel
theorem dksX5_hidden_1 : cX5_hidden.data.toList.drop 24 = dktX5_hidden_1 := dk_seg dksX5_hidden_0 24 rfl rfl
theorem dksX5_hidden_2 : cX5_hidden.data.toList.drop 48 = dktX5_hidden_2 := dk_seg dksX5_hidden_1 24 rfl rfl
theorem dksX5_hidden_3 : cX5_hidden.data.toList.drop 72 = dktX5_hidden_3 := dk_seg dksX5_hidden_2 24 rfl rfl
theorem dX5_hidden_0 : decode cX5_hidden 0 = .ok (.iconst 0, 1) := dk_3 (dk_at dksX5_hidden_0 0 rfl rfl)
theorem dX5_hidden_1 : decode cX5_hidden 1 = .ok (.istore_n 1, 1) := dk_60 (dk_at dksX5_hidden_0 1 rfl rfl)
theorem dX5_hidden_2 : decode cX5_hidden 2 = .ok (.iconst 0, 1) := dk_3 (dk_at dksX5_hidden_0 2 rfl rfl)
theorem dX5_hidden_3 : decode cX5_hidden 3 = .ok (.istore_n 2, 1) := dk_61 (dk_at dksX5_hidden_0 3 rfl rfl)
theorem dX5_hidden_4 : decode cX5_hidden 4 = .ok (.iload_n 2, 1) := dk_28 (dk_at dksX5_hidden_0 4 rfl rfl)
theorem dX5_hidden_5 : decode cX5_hidden 5 = .ok (.aload_n 0, 1) := dk_42 (dk_at dksX5_hidden_0 5 rfl rfl)
theorem dX5_hidden_6 : decode cX5_hidden 6 = .ok (.getfield 35, 3) := dk_180 0 35 (dk_at dksX5_hidden_0 6 rfl rfl)
theorem dX5_hidden_9 : decode cX5_hidden 9 = .ok (.invokevirtual 62, 3) := dk_182 0 62 (dk_at dksX5_hidden_0 9 rfl rfl)
theorem dX5_hidden_12 : decode cX5_hidden 12 = .ok (.if_icmp .ge 60, 3) := dk_162 0 60 (dk_at dksX5_hidden_0 12 rfl rfl)
theorem dX5_hidden_15 : decode cX5_hidden 15 = .ok (.iconst 0, 1) := dk_3 (dk_at dksX5_hidden_0 15 rfl rfl)
theorem dX5_hidden_16 : decode cX5_hidden 16 = .ok (.istore_n 3, 1) := dk_62 (dk_at dksX5_hidden_0 16 rfl rfl)
theorem dX5_hidden_17 : decode cX5_hidden 17 = .ok (.iload_n 3, 1) := dk_29 (dk_at dksX5_hidden_0 17 rfl rfl)
theorem dX5_hidden_18 : decode cX5_hidden 18 = .ok (.iload_n 2, 1) := dk_28 (dk_at dksX5_hidden_0 18 rfl rfl)
theorem dX5_hidden_19 : decode cX5_hidden 19 = .ok (.if_icmp .ge 47, 3) := dk_162 0 47 (dk_at dksX5_hidden_0 19 rfl rfl)
theorem dX5_hidden_22 : decode cX5_hidden 22 = .ok (.iload_n 1, 1) := dk_27 (dk_at dksX5_hidden_0 22 rfl rfl)
theorem dX5_hidden_23 : decode cX5_hidden 23 = .ok (.aload_n 0, 1) := dk_42 (dk_at dksX5_hidden_0 23 rfl rfl)
theorem dX5_hidden_24 : decode cX5_hidden 24 = .ok (.getfield 35, 3) := dk_180 0 35 (dk_at dksX5_hidden_1 0 rfl rfl)
theorem dX5_hidden_27 : decode cX5_hidden 27 = .ok (.iload_n 2, 1) := dk_28 (dk_at dksX5_hidden_1 3 rfl rfl)
theorem dX5_hidden_28 : decode cX5_hidden 28 = .ok (.invokevirtual 66, 3) := dk_182 0 66 (dk_at dksX5_hidden_1 4 rfl rfl)
theorem dX5_hidden_31 : decode cX5_hidden 31 = .ok (.checkcast 70, 3) := dk_192 0 70 (dk_at dksX5_hidden_1 7 rfl rfl)
theorem dX5_hidden_34 : decode cX5_hidden 34 = .ok (.aload_n 0, 1) := dk_42 (dk_at dksX5_hidden_1 10 rfl rfl)
theorem dX5_hidden_35 : decode cX5_hidden 35 = .ok (.getfield 35, 3) := dk_180 0 35 (dk_at dksX5_hidden_1 11 rfl rfl)
theorem dX5_hidden_38 : decode cX5_hidden 38 = .ok (.iload_n 3, 1) := dk_29 (dk_at dksX5_hidden_1 14 rfl rfl)
theorem dX5_hidden_39 : decode cX5_hidden 39 = .ok (.invokevirtual 66, 3) := dk_182 0 66 (dk_at dksX5_hidden_1 15 rfl rfl)
theorem dX5_hidden_42 : decode cX5_hidden 42 = .ok (.checkcast 70, 3) := dk_192 0 70 (dk_at dksX5_hidden_1 18 rfl rfl)
theorem dX5_hidden_45 : decode cX5_hidden 45 = .ok (.invokevirtual 127, 3) := dk_182 0 127 (dk_at dksX5_hidden_1 21 rfl rfl)
theorem dX5_hidden_48 : decode cX5_hidden 48 = .ok (.ifCond .eq 9, 3) := dk_153 0 9 (dk_at dksX5_hidden_2 0 rfl rfl)
theorem dX5_hidden_51 : decode cX5_hidden 51 = .ok (.iconst 1, 1) := dk_4 (dk_at dksX5_hidden_2 3 rfl rfl)
theorem dX5_hidden_52 : decode cX5_hidden 52 = .ok (.iload_n 2, 1) := dk_28 (dk_at dksX5_hidden_2 4 rfl rfl)
theorem dX5_hidden_53 : decode cX5_hidden 53 = .ok (.ishl, 1) := dk_120 (dk_at dksX5_hidden_2 5 rfl rfl)
theorem dX5_hidden_54 : decode cX5_hidden 54 = .ok (.goto 4, 3) := dk_167 0 4 (dk_at dksX5_hidden_2 6 rfl rfl)
theorem dX5_hidden_57 : decode cX5_hidden 57 = .ok (.iconst 0, 1) := dk_3 (dk_at dksX5_hidden_2 9 rfl rfl)
theorem dX5_hidden_58 : decode cX5_hidden 58 = .ok (.ior, 1) := dk_128 (dk_at dksX5_hidden_2 10 rfl rfl)
theorem dX5_hidden_59 : decode cX5_hidden 59 = .ok (.istore_n 1, 1) := dk_60 (dk_at dksX5_hidden_2 11 rfl rfl)
theorem dX5_hidden_60 : decode cX5_hidden 60 = .ok (.iinc 3 1, 3) := dk_132 3 1 (dk_at dksX5_hidden_2 12 rfl rfl)
theorem dX5_hidden_63 : decode cX5_hidden 63 = .ok (.goto (-46), 3) := dk_167 255 210 (dk_at dksX5_hidden_2 15 rfl rfl)
theorem dX5_hidden_66 : decode cX5_hidden 66 = .ok (.iinc 2 1, 3) := dk_132 2 1 (dk_at dksX5_hidden_2 18 rfl rfl)
theorem dX5_hidden_69 : decode cX5_hidden 69 = .ok (.goto (-65), 3) := dk_167 255 191 (dk_at dksX5_hidden_2 21 rfl rfl)
theorem dX5_hidden_72 : decode cX5_hidden 72 = .ok (.iload_n 1, 1) := dk_27 (dk_at dksX5_hidden_3 0 rfl rfl)
theorem dX5_hidden_73 : decode cX5_hidden 73 = .ok (.ireturn, 1) := dk_172 (dk_at dksX5_hidden_3 1 rfl rfl)
abbrev cX5_served : ByteArray := prog_13_method_17_code
def yX5_served : MethodName := ⟨RX5, "served", "()I"⟩
def dkwX5_served_5 : List UInt8 := [167, 255, 143, 27, 172]
abbrev dktX5_served_5 : List UInt8 := dkwX5_served_5 ++ []
def dkwX5_served_4 : List UInt8 := [182, 0, 79, 153, 0, 9, 4, 28, 120, 167, 0, 4, 3, 128, 60, 132, 3, 1, 167, 255, 162, 132, 2, 1]
abbrev dktX5_served_4 : List UInt8 := dkwX5_served_4 ++ dktX5_served_5
def dkwX5_served_3 : List UInt8 := [28, 182, 0, 66, 192, 0, 70, 180, 0, 75, 42, 180, 0, 38, 29, 182, 0, 66, 192, 0, 70, 180, 0, 75]
abbrev dktX5_served_3 : List UInt8 := dkwX5_served_3 ++ dktX5_served_4
def dkwX5_served_2 : List UInt8 := [180, 0, 72, 42, 180, 0, 38, 29, 182, 0, 66, 192, 0, 70, 180, 0, 72, 160, 0, 43, 42, 180, 0, 38]
abbrev dktX5_served_2 : List UInt8 := dkwX5_served_2 ++ dktX5_served_3
def dkwX5_served_1 : List UInt8 := [182, 0, 62, 162, 0, 89, 27, 29, 28, 159, 0, 74, 42, 180, 0, 38, 28, 182, 0, 66, 192, 0, 70]
abbrev dktX5_served_1 : List UInt8 := dkwX5_served_1 ++ dktX5_served_2
def dkwX5_served_0 : List UInt8 := [3, 60, 3, 61, 28, 42, 180, 0, 38, 182, 0, 62, 162, 0, 108, 3, 62, 29, 42, 180, 0, 38]
abbrev dktX5_served_0 : List UInt8 := dkwX5_served_0 ++ dktX5_served_1
theorem dksX5_served_0 : cX5_served.data.toList.drop 0 = dktX5_served_0 := by decide +kernel
theorem dksX5_served_1 : cX5_served.data.toList.drop 22 = dktX5_served_1 := dk_seg dksX5_served_0 22 rfl rfl
theorem dksX5_served_2 : cX5_served.data.toList.drop 45 = dktX5_served_2 := dk_seg dksX5_served_1 23 rfl rfl
theorem dksX5_served_3 : cX5_served.data.toList.drop 69 = dktX5_served_3 := dk_seg dksX5_served_2 24 rfl rfl
theorem dksX5_served_4 : cX5_served.data.toList.drop 93 = dktX5_served_4 := dk_seg dksX5_served_3 24 rfl rfl
theorem dksX5_served_5 : cX5_served.data.toList.drop 117 = dktX5_served_5 := dk_seg dksX5_served_4 24 rfl rfl
theorem dX5_served_0 : decode cX5_served 0 = .ok (.iconst 0, 1) := dk_3 (dk_at dksX5_served_0 0 rfl rfl)
theorem dX5_served_1 : decode cX5_served 1 = .ok (.istore_n 1, 1) := dk_60 (dk_at dksX5_served_0 1 rfl rfl)
theorem dX5_served_2 : decode cX5_served 2 = .ok (.iconst 0, 1) := dk_3 (dk_at dksX5_served_0 2 rfl rfl)
theorem dX5_served_3 : decode cX5_served 3 = .ok (.istore_n 2, 1) := dk_61 (dk_at dksX5_served_0 3 rfl rfl)
theorem dX5_served_4 : decode cX5_served 4 = .ok (.iload_n 2, 1) := dk_28 (dk_at dksX5_served_0 4 rfl rfl)
theorem dX5_served_5 : decode cX5_served 5 = .ok (.aload_n 0, 1) := dk_42 (dk_at dksX5_served_0 5 rfl rfl)
theorem dX5_served_6 : decode cX5_served 6 = .ok (.getfield 38, 3) := dk_180 0 38 (dk_at dksX5_served_0 6 rfl rfl)
theorem dX5_served_9 : decode cX5_served 9 = .ok (.invokevirtual 62, 3) := dk_182 0 62 (dk_at dksX5_served_0 9 rfl rfl)
theorem dX5_served_12 : decode cX5_served 12 = .ok (.if_icmp .ge 108, 3) := dk_162 0 108 (dk_at dksX5_served_0 12 rfl rfl)
theorem dX5_served_15 : decode cX5_served 15 = .ok (.iconst 0, 1) := dk_3 (dk_at dksX5_served_0 15 rfl rfl)
theorem dX5_served_16 : decode cX5_served 16 = .ok (.istore_n 3, 1) := dk_62 (dk_at dksX5_served_0 16 rfl rfl)
theorem dX5_served_17 : decode cX5_served 17 = .ok (.iload_n 3, 1) := dk_29 (dk_at dksX5_served_0 17 rfl rfl)
theorem dX5_served_18 : decode cX5_served 18 = .ok (.aload_n 0, 1) := dk_42 (dk_at dksX5_served_0 18 rfl rfl)
theorem dX5_served_19 : decode cX5_served 19 = .ok (.getfield 38, 3) := dk_180 0 38 (dk_at dksX5_served_0 19 rfl rfl)
theorem dX5_served_22 : decode cX5_served 22 = .ok (.invokevirtual 62, 3) := dk_182 0 62 (dk_at dksX5_served_1 0 rfl rfl)
theorem dX5_served_25 : decode cX5_served 25 = .ok (.if_icmp .ge 89, 3) := dk_162 0 89 (dk_at dksX5_served_1 3 rfl rfl)
theorem dX5_served_28 : decode cX5_served 28 = .ok (.iload_n 1, 1) := dk_27 (dk_at dksX5_served_1 6 rfl rfl)
theorem dX5_served_29 : decode cX5_served 29 = .ok (.iload_n 3, 1) := dk_29 (dk_at dksX5_served_1 7 rfl rfl)
theorem dX5_served_30 : decode cX5_served 30 = .ok (.iload_n 2, 1) := dk_28 (dk_at dksX5_served_1 8 rfl rfl)
theorem dX5_served_31 : decode cX5_served 31 = .ok (.if_icmp .eq 74, 3) := dk_159 0 74 (dk_at dksX5_served_1 9 rfl rfl)
theorem dX5_served_34 : decode cX5_served 34 = .ok (.aload_n 0, 1) := dk_42 (dk_at dksX5_served_1 12 rfl rfl)
theorem dX5_served_35 : decode cX5_served 35 = .ok (.getfield 38, 3) := dk_180 0 38 (dk_at dksX5_served_1 13 rfl rfl)
theorem dX5_served_38 : decode cX5_served 38 = .ok (.iload_n 2, 1) := dk_28 (dk_at dksX5_served_1 16 rfl rfl)
theorem dX5_served_39 : decode cX5_served 39 = .ok (.invokevirtual 66, 3) := dk_182 0 66 (dk_at dksX5_served_1 17 rfl rfl)
theorem dX5_served_42 : decode cX5_served 42 = .ok (.checkcast 70, 3) := dk_192 0 70 (dk_at dksX5_served_1 20 rfl rfl)
theorem dX5_served_45 : decode cX5_served 45 = .ok (.getfield 72, 3) := dk_180 0 72 (dk_at dksX5_served_2 0 rfl rfl)
theorem dX5_served_48 : decode cX5_served 48 = .ok (.aload_n 0, 1) := dk_42 (dk_at dksX5_served_2 3 rfl rfl)
theorem dX5_served_49 : decode cX5_served 49 = .ok (.getfield 38, 3) := dk_180 0 38 (dk_at dksX5_served_2 4 rfl rfl)
theorem dX5_served_52 : decode cX5_served 52 = .ok (.iload_n 3, 1) := dk_29 (dk_at dksX5_served_2 7 rfl rfl)
theorem dX5_served_53 : decode cX5_served 53 = .ok (.invokevirtual 66, 3) := dk_182 0 66 (dk_at dksX5_served_2 8 rfl rfl)
theorem dX5_served_56 : decode cX5_served 56 = .ok (.checkcast 70, 3) := dk_192 0 70 (dk_at dksX5_served_2 11 rfl rfl)
theorem dX5_served_59 : decode cX5_served 59 = .ok (.getfield 72, 3) := dk_180 0 72 (dk_at dksX5_served_2 14 rfl rfl)
theorem dX5_served_62 : decode cX5_served 62 = .ok (.if_icmp .ne 43, 3) := dk_160 0 43 (dk_at dksX5_served_2 17 rfl rfl)
theorem dX5_served_65 : decode cX5_served 65 = .ok (.aload_n 0, 1) := dk_42 (dk_at dksX5_served_2 20 rfl rfl)
theorem dX5_served_66 : decode cX5_served 66 = .ok (.getfield 38, 3) := dk_180 0 38 (dk_at dksX5_served_2 21 rfl rfl)
theorem dX5_served_69 : decode cX5_served 69 = .ok (.iload_n 2, 1) := dk_28 (dk_at dksX5_served_3 0 rfl rfl)
theorem dX5_served_70 : decode cX5_served 70 = .ok (.invokevirtual 66, 3) := dk_182 0 66 (dk_at dksX5_served_3 1 rfl rfl)
theorem dX5_served_73 : decode cX5_served 73 = .ok (.checkcast 70, 3) := dk_192 0 70 (dk_at dksX5_served_3 4 rfl rfl)
theorem dX5_served_76 : decode cX5_served 76 = .ok (.getfield 75, 3) := dk_180 0 75 (dk_at dksX5_served_3 7 rfl rfl)
theorem dX5_served_79 : decode cX5_served 79 = .ok (.aload_n 0, 1) := dk_42 (dk_at dksX5_served_3 10 rfl rfl)
theorem dX5_served_80 : decode cX5_served 80 = .ok (.getfield 38, 3) := dk_180 0 38 (dk_at dksX5_served_3 11 rfl rfl)
theorem dX5_served_83 : decode cX5_served 83 = .ok (.iload_n 3, 1) := dk_29 (dk_at dksX5_served_3 14 rfl rfl)
theorem dX5_served_84 : decode cX5_served 84 = .ok (.invokevirtual 66, 3) := dk_182 0 66 (dk_at dksX5_served_3 15 rfl rfl)
theorem dX5_served_87 : decode cX5_served 87 = .ok (.checkcast 70, 3) := dk_192 0 70 (dk_at dksX5_served_3 18 rfl rfl)
theorem dX5_served_90 : decode cX5_served 90 = .ok (.getfield 75, 3) := dk_180 0 75 (dk_at dksX5_served_3 21 rfl rfl)
theorem dX5_served_93 : decode cX5_served 93 = .ok (.invokevirtual 79, 3) := dk_182 0 79 (dk_at dksX5_served_4 0 rfl rfl)
theorem dX5_served_96 : decode cX5_served 96 = .ok (.ifCond .eq 9, 3) := dk_153 0 9 (dk_at dksX5_served_4 3 rfl rfl)
theorem dX5_served_99 : decode cX5_served 99 = .ok (.iconst 1, 1) := dk_4 (dk_at dksX5_served_4 6 rfl rfl)
theorem dX5_served_100 : decode cX5_served 100 = .ok (.iload_n 2, 1) := dk_28 (dk_at dksX5_served_4 7 rfl rfl)
theorem dX5_served_101 : decode cX5_served 101 = .ok (.ishl, 1) := dk_120 (dk_at dksX5_served_4 8 rfl rfl)
theorem dX5_served_102 : decode cX5_served 102 = .ok (.goto 4, 3) := dk_167 0 4 (dk_at dksX5_served_4 9 rfl rfl)
theorem dX5_served_105 : decode cX5_served 105 = .ok (.iconst 0, 1) := dk_3 (dk_at dksX5_served_4 12 rfl rfl)
theorem dX5_served_106 : decode cX5_served 106 = .ok (.ior, 1) := dk_128 (dk_at dksX5_served_4 13 rfl rfl)
theorem dX5_served_107 : decode cX5_served 107 = .ok (.istore_n 1, 1) := dk_60 (dk_at dksX5_served_4 14 rfl rfl)
theorem dX5_served_108 : decode cX5_served 108 = .ok (.iinc 3 1, 3) := dk_132 3 1 (dk_at dksX5_served_4 15 rfl rfl)
theorem dX5_served_111 : decode cX5_served 111 = .ok (.goto (-94), 3) := dk_167 255 162 (dk_at dksX5_served_4 18 rfl rfl)
theorem dX5_served_114 : decode cX5_served 114 = .ok (.iinc 2 1, 3) := dk_132 2 1 (dk_at dksX5_served_4 21 rfl rfl)
theorem dX5_served_117 : decode cX5_served 117 = .ok (.goto (-113), 3) := dk_167 255 143 (dk_at dksX5_served_5 0 rfl rfl)
theorem dX5_served_120 : decode cX5_served 120 = .ok (.iload_n 1, 1) := dk_27 (dk_at dksX5_served_5 3 rfl rfl)
theorem dX5_served_121 : decode cX5_served 121 = .ok (.ireturn, 1) := dk_172 (dk_at dksX5_served_5 4 rfl rfl)
theorem q146 : (Jvm.Cond.initialized "AskedNames$Net") ∈ lw_all := lw_g (lw_at lw_m1 21 rfl) rfl
theorem q513 : (Jvm.Cond.instantiable "AskedNames$Net" (7 : Nat)) ∈ lw_all := lw_g (lw_at lw_m2 148 rfl) rfl
theorem q515 : (Jvm.Cond.instanceMethod ({ cls := "AskedNames$Net", name := "<init>", desc := "()V" } : Jvm.MethodName)) ∈ lw_all := lw_g (lw_at lw_m2 150 rfl) rfl
theorem q516 : (Jvm.Cond.code ({ cls := "AskedNames$Net", name := "<init>", desc := "()V" } : Jvm.MethodName) prog_13_method_1_code (1 : Nat) (Option.none : Option Jvm.ClassFile.FieldType)) ∈ lw_all := lw_g (lw_at lw_m2 151 rfl) rfl
theorem q517 : (Jvm.Cond.methodLink "AskedNames$Net" (3 : Nat) ({ cls := "java/lang/Object", name := "<init>", desc := "()V" } : Jvm.MethodName)) ∈ lw_all := lw_g (lw_at lw_m2 152 rfl) rfl
theorem q518 : (Jvm.Cond.classLink "AskedNames$Net" (25 : Nat) "java/util/ArrayList") ∈ lw_all := lw_g (lw_at lw_m2 153 rfl) rfl
theorem q519 : (Jvm.Cond.methodLink "AskedNames$Net" (27 : Nat) ({ cls := "java/util/ArrayList", name := "<init>", desc := "()V" } : Jvm.MethodName)) ∈ lw_all := lw_g (lw_at lw_m2 154 rfl) rfl
theorem q524 : (Jvm.Cond.methodLink "AskedNames$Net" (32 : Nat) ({ cls := "java/util/ArrayList", name := "<init>", desc := "(I)V" } : Jvm.MethodName)) ∈ lw_all := lw_g (lw_at lw_m2 159 rfl) rfl
theorem q525 : (Jvm.Cond.methodLink "AskedNames$Net" (41 : Nat) ({ cls := "java/util/Arrays", name := "fill", desc := "([II)V" } : Jvm.MethodName)) ∈ lw_all := lw_g (lw_at lw_m2 160 rfl) rfl
theorem q528 : (Jvm.Cond.fieldLink "AskedNames$Net" (9 : Nat) "AskedNames$Net" "nodes" "I") ∈ lw_all := lw_g (lw_at lw_m2 163 rfl) rfl
theorem q533 : (Jvm.Cond.fieldLink "AskedNames$Net" (15 : Nat) "AskedNames$Net" "life" "I") ∈ lw_all := lw_g (lw_at lw_m2 168 rfl) rfl
theorem q537 : (Jvm.Cond.fieldLink "AskedNames$Net" (18 : Nat) "AskedNames$Net" "room" "[I") ∈ lw_all := lw_g (lw_at lw_m2 172 rfl) rfl
theorem q541 : (Jvm.Cond.fieldLink "AskedNames$Net" (22 : Nat) "AskedNames$Net" "delay" "[I") ∈ lw_all := lw_g (lw_at lw_m2 176 rfl) rfl
theorem q544 : (Jvm.Cond.fieldLink "AskedNames$Net" (28 : Nat) "AskedNames$Net" "links" "Ljava/util/ArrayList;") ∈ lw_all := lw_g (lw_at lw_m2 179 rfl) rfl
theorem q548 : (Jvm.Cond.fieldLink "AskedNames$Net" (35 : Nat) "AskedNames$Net" "routes" "Ljava/util/ArrayList;") ∈ lw_all := lw_g (lw_at lw_m2 183 rfl) rfl
theorem q552 : (Jvm.Cond.fieldLink "AskedNames$Net" (38 : Nat) "AskedNames$Net" "serves" "Ljava/util/ArrayList;") ∈ lw_all := lw_g (lw_at lw_m2 187 rfl) rfl
theorem q556 : (Jvm.Cond.lays "AskedNames$Net" "AskedNames$Net" "nodes" "I") ∈ lw_all := lw_g (lw_at lw_m2 191 rfl) rfl
theorem q557 : (Jvm.Cond.soleField "AskedNames$Net" "nodes") ∈ lw_all := lw_g (lw_at lw_m2 192 rfl) rfl
theorem q558 : (Jvm.Cond.lays "AskedNames$Net" "AskedNames$Net" "life" "I") ∈ lw_all := lw_g (lw_at lw_m2 193 rfl) rfl
theorem q559 : (Jvm.Cond.soleField "AskedNames$Net" "life") ∈ lw_all := lw_g (lw_at lw_m2 194 rfl) rfl
theorem q560 : (Jvm.Cond.laysFinal "AskedNames$Net" "AskedNames$Net" "room" "[I") ∈ lw_all := lw_g (lw_at lw_m2 195 rfl) rfl
theorem q561 : (Jvm.Cond.soleField "AskedNames$Net" "room") ∈ lw_all := lw_g (lw_at lw_m2 196 rfl) rfl
theorem q562 : (Jvm.Cond.laysFinal "AskedNames$Net" "AskedNames$Net" "delay" "[I") ∈ lw_all := lw_g (lw_at lw_m2 197 rfl) rfl
theorem q563 : (Jvm.Cond.soleField "AskedNames$Net" "delay") ∈ lw_all := lw_g (lw_at lw_m2 198 rfl) rfl
theorem q564 : (Jvm.Cond.laysFinal "AskedNames$Net" "AskedNames$Net" "links" "Ljava/util/ArrayList;") ∈ lw_all := lw_g (lw_at lw_m2 199 rfl) rfl
theorem q565 : (Jvm.Cond.soleField "AskedNames$Net" "links") ∈ lw_all := lw_g (lw_at lw_m2 200 rfl) rfl
theorem q566 : (Jvm.Cond.laysFinal "AskedNames$Net" "AskedNames$Net" "routes" "Ljava/util/ArrayList;") ∈ lw_all := lw_g (lw_at lw_m2 201 rfl) rfl
theorem q567 : (Jvm.Cond.soleField "AskedNames$Net" "routes") ∈ lw_all := lw_g (lw_at lw_m2 202 rfl) rfl
theorem q568 : (Jvm.Cond.laysFinal "AskedNames$Net" "AskedNames$Net" "serves" "Ljava/util/ArrayList;") ∈ lw_all := lw_g (lw_at lw_m2 203 rfl) rfl
theorem q569 : (Jvm.Cond.soleField "AskedNames$Net" "serves") ∈ lw_all := lw_g (lw_at lw_m2 204 rfl) rfl
theorem q570 : (Jvm.Cond.superclass "AskedNames$Net" "java/lang/Object") ∈ lw_all := lw_g (lw_at lw_m2 205 rfl) rfl
theorem q768 : (Jvm.Cond.selects "AskedNames$Net" ({ cls := "java/lang/Object", name := "getClass", desc := "()Ljava/lang/Class;" } : Jvm.MethodName) ({ cls := "java/lang/Object", name := "getClass", desc := "()Ljava/lang/Class;" } : Jvm.MethodName)) ∈ lw_all := lw_g (lw_at lw_m3 163 rfl) rfl
theorem q823 : (Jvm.Cond.instanceMethod ({ cls := "AskedNames$Net", name := "links", desc := "(III)V" } : Jvm.MethodName)) ∈ lw_all := lw_g (lw_at lw_m3 218 rfl) rfl
theorem q824 : (Jvm.Cond.selects "AskedNames$Net" ({ cls := "AskedNames$Net", name := "links", desc := "(III)V" } : Jvm.MethodName) ({ cls := "AskedNames$Net", name := "links", desc := "(III)V" } : Jvm.MethodName)) ∈ lw_all := lw_g (lw_at lw_m3 219 rfl) rfl
theorem q825 : (Jvm.Cond.code ({ cls := "AskedNames$Net", name := "links", desc := "(III)V" } : Jvm.MethodName) prog_13_method_5_code (4 : Nat) (Option.none : Option Jvm.ClassFile.FieldType)) ∈ lw_all := lw_g (lw_at lw_m3 220 rfl) rfl
theorem q826 : (Jvm.Cond.methodLink "AskedNames$Net" (55 : Nat) ({ cls := "AskedNames$Net", name := "delay", desc := "(II)I" } : Jvm.MethodName)) ∈ lw_all := lw_g (lw_at lw_m3 221 rfl) rfl
theorem q827 : (Jvm.Cond.instanceMethod ({ cls := "AskedNames$Net", name := "delay", desc := "(II)I" } : Jvm.MethodName)) ∈ lw_all := lw_g (lw_at lw_m3 222 rfl) rfl
theorem q828 : (Jvm.Cond.selects "AskedNames$Net" ({ cls := "AskedNames$Net", name := "delay", desc := "(II)I" } : Jvm.MethodName) ({ cls := "AskedNames$Net", name := "delay", desc := "(II)I" } : Jvm.MethodName)) ∈ lw_all := lw_g (lw_at lw_m3 223 rfl) rfl
theorem q829 : (Jvm.Cond.code ({ cls := "AskedNames$Net", name := "delay", desc := "(II)I" } : Jvm.MethodName) prog_13_method_3_code (3 : Nat) (Option.some Jvm.ClassFile.FieldType.int)) ∈ lw_all := lw_g (lw_at lw_m3 224 rfl) rfl
theorem q830 : (Jvm.Cond.methodLink "AskedNames$Net" (58 : Nat) ({ cls := "java/util/ArrayList", name := "add", desc := "(Ljava/lang/Object;)Z" } : Jvm.MethodName)) ∈ lw_all := lw_g (lw_at lw_m3 225 rfl) rfl
theorem q856 : (Jvm.Cond.fieldLinkNest "AskedNames$Net" (72 : Nat) "AskedNames$Route" "node" "I" "AskedNames") ∈ lw_tbl := lw_at lw_m4 11 rfl
theorem q861 : (Jvm.Cond.fieldLinkNest "AskedNames$Net" (124 : Nat) "AskedNames$Route" "to" "I" "AskedNames") ∈ lw_tbl := lw_at lw_m4 16 rfl
theorem q868 : (Jvm.Cond.fieldLinkNest "AskedNames$Net" (75 : Nat) "AskedNames$Route" "name" "Ljava/lang/String;" "AskedNames") ∈ lw_tbl := lw_at lw_m4 23 rfl
theorem q1043 : (Jvm.Cond.instanceMethod ({ cls := "AskedNames$Net", name := "isNode", desc := "(I)Z" } : Jvm.MethodName)) ∈ lw_all := lw_g (lw_at lw_m4 198 rfl) rfl
theorem q1044 : (Jvm.Cond.selects "AskedNames$Net" ({ cls := "AskedNames$Net", name := "isNode", desc := "(I)Z" } : Jvm.MethodName) ({ cls := "AskedNames$Net", name := "isNode", desc := "(I)Z" } : Jvm.MethodName)) ∈ lw_all := lw_g (lw_at lw_m4 199 rfl) rfl
theorem q1045 : (Jvm.Cond.code ({ cls := "AskedNames$Net", name := "isNode", desc := "(I)Z" } : Jvm.MethodName) prog_13_method_2_code (2 : Nat) (Option.some Jvm.ClassFile.FieldType.boolean)) ∈ lw_all := lw_g (lw_at lw_m4 200 rfl) rfl
theorem q1046 : (Jvm.Cond.methodLinkNest "AskedNames$Net" (47 : Nat) ({ cls := "AskedNames", name := "isIn", desc := "(III)Z" } : Jvm.MethodName) "AskedNames") ∈ lw_tbl := lw_at lw_m4 201 rfl
theorem q1071 : (Jvm.Cond.instanceMethod ({ cls := "AskedNames$Net", name := "isLink", desc := "(II)Z" } : Jvm.MethodName)) ∈ lw_all := lw_g (lw_at lw_m4 226 rfl) rfl
theorem q1072 : (Jvm.Cond.selects "AskedNames$Net" ({ cls := "AskedNames$Net", name := "isLink", desc := "(II)Z" } : Jvm.MethodName) ({ cls := "AskedNames$Net", name := "isLink", desc := "(II)Z" } : Jvm.MethodName)) ∈ lw_all := lw_g (lw_at lw_m4 227 rfl) rfl
theorem q1073 : (Jvm.Cond.code ({ cls := "AskedNames$Net", name := "isLink", desc := "(II)Z" } : Jvm.MethodName) prog_13_method_4_code (3 : Nat) (Option.some Jvm.ClassFile.FieldType.boolean)) ∈ lw_all := lw_g (lw_at lw_m4 228 rfl) rfl
theorem q1074 : (Jvm.Cond.methodLink "AskedNames$Net" (51 : Nat) ({ cls := "AskedNames$Net", name := "isNode", desc := "(I)Z" } : Jvm.MethodName)) ∈ lw_all := lw_g (lw_at lw_m4 229 rfl) rfl
theorem q1085 : (Jvm.Cond.instanceMethod ({ cls := "AskedNames$Net", name := "rows", desc := "(I)I" } : Jvm.MethodName)) ∈ lw_all := lw_g (lw_at lw_m5 0 rfl) rfl
theorem q1086 : (Jvm.Cond.selects "AskedNames$Net" ({ cls := "AskedNames$Net", name := "rows", desc := "(I)I" } : Jvm.MethodName) ({ cls := "AskedNames$Net", name := "rows", desc := "(I)I" } : Jvm.MethodName)) ∈ lw_all := lw_g (lw_at lw_m5 1 rfl) rfl
theorem q1087 : (Jvm.Cond.code ({ cls := "AskedNames$Net", name := "rows", desc := "(I)I" } : Jvm.MethodName) prog_13_method_10_code (5 : Nat) (Option.some Jvm.ClassFile.FieldType.int)) ∈ lw_all := lw_g (lw_at lw_m5 2 rfl) rfl
theorem q1088 : (Jvm.Cond.methodLink "AskedNames$Net" (62 : Nat) ({ cls := "java/util/ArrayList", name := "size", desc := "()I" } : Jvm.MethodName)) ∈ lw_all := lw_g (lw_at lw_m5 3 rfl) rfl
theorem q1089 : (Jvm.Cond.methodLink "AskedNames$Net" (66 : Nat) ({ cls := "java/util/ArrayList", name := "get", desc := "(I)Ljava/lang/Object;" } : Jvm.MethodName)) ∈ lw_all := lw_g (lw_at lw_m5 4 rfl) rfl
theorem q1090 : (Jvm.Cond.classLink "AskedNames$Net" (70 : Nat) "AskedNames$Route") ∈ lw_all := lw_g (lw_at lw_m5 5 rfl) rfl
theorem q1091 : (Jvm.Cond.methodLink "AskedNames$Net" (85 : Nat) ({ cls := "java/lang/String", name := "length", desc := "()I" } : Jvm.MethodName)) ∈ lw_all := lw_g (lw_at lw_m5 6 rfl) rfl
theorem q1092 : (Jvm.Cond.methodLink "AskedNames$Net" (116 : Nat) ({ cls := "AskedNames$Net", name := "isFirst", desc := "(II)Z" } : Jvm.MethodName)) ∈ lw_all := lw_g (lw_at lw_m5 7 rfl) rfl
theorem q1093 : (Jvm.Cond.privateMethod ({ cls := "AskedNames$Net", name := "isFirst", desc := "(II)Z" } : Jvm.MethodName)) ∈ lw_tbl := lw_at lw_m5 8 rfl
theorem q1094 : (Jvm.Cond.instanceMethod ({ cls := "AskedNames$Net", name := "isFirst", desc := "(II)Z" } : Jvm.MethodName)) ∈ lw_all := lw_g (lw_at lw_m5 9 rfl) rfl
theorem q1095 : (Jvm.Cond.code ({ cls := "AskedNames$Net", name := "isFirst", desc := "(II)Z" } : Jvm.MethodName) prog_13_method_11_code (5 : Nat) (Option.some Jvm.ClassFile.FieldType.boolean)) ∈ lw_all := lw_g (lw_at lw_m5 10 rfl) rfl
theorem q1096 : (Jvm.Cond.methodLink "AskedNames$Net" (120 : Nat) ({ cls := "java/lang/String", name := "substring", desc := "(II)Ljava/lang/String;" } : Jvm.MethodName)) ∈ lw_all := lw_g (lw_at lw_m5 11 rfl) rfl
theorem q1125 : (Jvm.Cond.methodLink "AskedNames$Net" (79 : Nat) ({ cls := "java/lang/String", name := "startsWith", desc := "(Ljava/lang/String;)Z" } : Jvm.MethodName)) ∈ lw_all := lw_g (lw_at lw_m5 40 rfl) rfl
theorem q1239 : (Jvm.Cond.instanceMethod ({ cls := "AskedNames$Net", name := "routes", desc := "(I)I" } : Jvm.MethodName)) ∈ lw_all := lw_g (lw_at lw_m5 154 rfl) rfl
theorem q1240 : (Jvm.Cond.selects "AskedNames$Net" ({ cls := "AskedNames$Net", name := "routes", desc := "(I)I" } : Jvm.MethodName) ({ cls := "AskedNames$Net", name := "routes", desc := "(I)I" } : Jvm.MethodName)) ∈ lw_all := lw_g (lw_at lw_m5 155 rfl) rfl
theorem q1241 : (Jvm.Cond.code ({ cls := "AskedNames$Net", name := "routes", desc := "(I)I" } : Jvm.MethodName) prog_13_method_12_code (5 : Nat) (Option.some Jvm.ClassFile.FieldType.int)) ∈ lw_all := lw_g (lw_at lw_m5 156 rfl) rfl
theorem q1242 : (Jvm.Cond.methodLink "AskedNames$Net" (94 : Nat) ({ cls := "java/util/ArrayList", name := "iterator", desc := "()Ljava/util/Iterator;" } : Jvm.MethodName)) ∈ lw_all := lw_g (lw_at lw_m5 157 rfl) rfl
theorem q1265 : (Jvm.Cond.interfaceEntry "AskedNames$Net" (98 : Nat)) ∈ lw_tbl := lw_at lw_m5 180 rfl
theorem q1266 : (Jvm.Cond.methodLink "AskedNames$Net" (98 : Nat) ({ cls := "java/util/Iterator", name := "hasNext", desc := "()Z" } : Jvm.MethodName)) ∈ lw_all := lw_g (lw_at lw_m5 181 rfl) rfl
theorem q1275 : (Jvm.Cond.interfaceEntry "AskedNames$Net" (104 : Nat)) ∈ lw_tbl := lw_at lw_m5 190 rfl
theorem q1276 : (Jvm.Cond.methodLink "AskedNames$Net" (104 : Nat) ({ cls := "java/util/Iterator", name := "next", desc := "()Ljava/lang/Object;" } : Jvm.MethodName)) ∈ lw_all := lw_g (lw_at lw_m5 191 rfl) rfl
theorem q1300 : (Jvm.Cond.instanceMethod ({ cls := "AskedNames$Net", name := "longest", desc := "(ILjava/lang/String;)I" } : Jvm.MethodName)) ∈ lw_all := lw_g (lw_at lw_m5 215 rfl) rfl
theorem q1301 : (Jvm.Cond.selects "AskedNames$Net" ({ cls := "AskedNames$Net", name := "longest", desc := "(ILjava/lang/String;)I" } : Jvm.MethodName) ({ cls := "AskedNames$Net", name := "longest", desc := "(ILjava/lang/String;)I" } : Jvm.MethodName)) ∈ lw_all := lw_g (lw_at lw_m5 216 rfl) rfl
theorem q1302 : (Jvm.Cond.code ({ cls := "AskedNames$Net", name := "longest", desc := "(ILjava/lang/String;)I" } : Jvm.MethodName) prog_13_method_6_code (5 : Nat) (Option.some Jvm.ClassFile.FieldType.int)) ∈ lw_all := lw_g (lw_at lw_m5 217 rfl) rfl
theorem q1303 : (Jvm.Cond.methodLink "AskedNames$Net" (88 : Nat) ({ cls := "java/lang/Math", name := "max", desc := "(II)I" } : Jvm.MethodName)) ∈ lw_all := lw_g (lw_at lw_m5 218 rfl) rfl
theorem q1424 : (Jvm.Cond.instanceMethod ({ cls := "AskedNames$Net", name := "server", desc := "(ILjava/lang/String;)LAskedNames$Route;" } : Jvm.MethodName)) ∈ lw_all := lw_g (lw_at lw_m6 99 rfl) rfl
theorem q1425 : (Jvm.Cond.selects "AskedNames$Net" ({ cls := "AskedNames$Net", name := "server", desc := "(ILjava/lang/String;)LAskedNames$Route;" } : Jvm.MethodName) ({ cls := "AskedNames$Net", name := "server", desc := "(ILjava/lang/String;)LAskedNames$Route;" } : Jvm.MethodName)) ∈ lw_all := lw_g (lw_at lw_m6 100 rfl) rfl
theorem q1426 : (Jvm.Cond.code ({ cls := "AskedNames$Net", name := "server", desc := "(ILjava/lang/String;)LAskedNames$Route;" } : Jvm.MethodName) prog_13_method_7_code (6 : Nat) (Option.some (Jvm.ClassFile.FieldType.object "AskedNames$Route"))) ∈ lw_all := lw_g (lw_at lw_m6 101 rfl) rfl
theorem q1451 : (Jvm.Cond.instanceMethod ({ cls := "AskedNames$Net", name := "far", desc := "(II)I" } : Jvm.MethodName)) ∈ lw_all := lw_g (lw_at lw_m6 126 rfl) rfl
theorem q1452 : (Jvm.Cond.selects "AskedNames$Net" ({ cls := "AskedNames$Net", name := "far", desc := "(II)I" } : Jvm.MethodName) ({ cls := "AskedNames$Net", name := "far", desc := "(II)I" } : Jvm.MethodName)) ∈ lw_all := lw_g (lw_at lw_m6 127 rfl) rfl
theorem q1453 : (Jvm.Cond.code ({ cls := "AskedNames$Net", name := "far", desc := "(II)I" } : Jvm.MethodName) prog_13_method_8_code (7 : Nat) (Option.some Jvm.ClassFile.FieldType.int)) ∈ lw_all := lw_g (lw_at lw_m6 128 rfl) rfl
theorem q1454 : (Jvm.Cond.constant "AskedNames$Net" (93 : Nat) (268435456 : Int32)) ∈ lw_all := lw_g (lw_at lw_m6 129 rfl) rfl
theorem q1455 : (Jvm.Cond.classLink "AskedNames$Net" (108 : Nat) "[I") ∈ lw_all := lw_g (lw_at lw_m6 130 rfl) rfl
theorem q1456 : (Jvm.Cond.methodLink "AskedNames$Net" (109 : Nat) ({ cls := "AskedNames$Net", name := "nears", desc := "([III)V" } : Jvm.MethodName)) ∈ lw_all := lw_g (lw_at lw_m6 131 rfl) rfl
theorem q1457 : (Jvm.Cond.privateMethod ({ cls := "AskedNames$Net", name := "nears", desc := "([III)V" } : Jvm.MethodName)) ∈ lw_tbl := lw_at lw_m6 132 rfl
theorem q1458 : (Jvm.Cond.instanceMethod ({ cls := "AskedNames$Net", name := "nears", desc := "([III)V" } : Jvm.MethodName)) ∈ lw_all := lw_g (lw_at lw_m6 133 rfl) rfl
theorem q1459 : (Jvm.Cond.code ({ cls := "AskedNames$Net", name := "nears", desc := "([III)V" } : Jvm.MethodName) prog_13_method_9_code (4 : Nat) (Option.none : Option Jvm.ClassFile.FieldType)) ∈ lw_all := lw_g (lw_at lw_m6 134 rfl) rfl
theorem q1460 : (Jvm.Cond.methodLink "AskedNames$Net" (113 : Nat) ({ cls := "java/lang/Math", name := "min", desc := "(II)I" } : Jvm.MethodName)) ∈ lw_all := lw_g (lw_at lw_m6 135 rfl) rfl
theorem q1466 : (Jvm.Cond.instanceMethod ({ cls := "AskedNames$Net", name := "edges", desc := "()I" } : Jvm.MethodName)) ∈ lw_all := lw_g (lw_at lw_m6 141 rfl) rfl
theorem q1467 : (Jvm.Cond.selects "AskedNames$Net" ({ cls := "AskedNames$Net", name := "edges", desc := "()I" } : Jvm.MethodName) ({ cls := "AskedNames$Net", name := "edges", desc := "()I" } : Jvm.MethodName)) ∈ lw_all := lw_g (lw_at lw_m6 142 rfl) rfl
theorem q1468 : (Jvm.Cond.code ({ cls := "AskedNames$Net", name := "edges", desc := "()I" } : Jvm.MethodName) prog_13_method_13_code (4 : Nat) (Option.some Jvm.ClassFile.FieldType.int)) ∈ lw_all := lw_g (lw_at lw_m6 143 rfl) rfl
theorem q1470 : (Jvm.Cond.instanceMethod ({ cls := "AskedNames$Net", name := "leaves", desc := "()I" } : Jvm.MethodName)) ∈ lw_all := lw_g (lw_at lw_m6 145 rfl) rfl
theorem q1471 : (Jvm.Cond.selects "AskedNames$Net" ({ cls := "AskedNames$Net", name := "leaves", desc := "()I" } : Jvm.MethodName) ({ cls := "AskedNames$Net", name := "leaves", desc := "()I" } : Jvm.MethodName)) ∈ lw_all := lw_g (lw_at lw_m6 146 rfl) rfl
theorem q1472 : (Jvm.Cond.code ({ cls := "AskedNames$Net", name := "leaves", desc := "()I" } : Jvm.MethodName) prog_13_method_14_code (5 : Nat) (Option.some Jvm.ClassFile.FieldType.int)) ∈ lw_all := lw_g (lw_at lw_m6 147 rfl) rfl
theorem q1474 : (Jvm.Cond.instanceMethod ({ cls := "AskedNames$Net", name := "blind", desc := "()I" } : Jvm.MethodName)) ∈ lw_all := lw_g (lw_at lw_m6 149 rfl) rfl
theorem q1475 : (Jvm.Cond.selects "AskedNames$Net" ({ cls := "AskedNames$Net", name := "blind", desc := "()I" } : Jvm.MethodName) ({ cls := "AskedNames$Net", name := "blind", desc := "()I" } : Jvm.MethodName)) ∈ lw_all := lw_g (lw_at lw_m6 150 rfl) rfl
theorem q1476 : (Jvm.Cond.code ({ cls := "AskedNames$Net", name := "blind", desc := "()I" } : Jvm.MethodName) prog_13_method_15_code (3 : Nat) (Option.some Jvm.ClassFile.FieldType.int)) ∈ lw_all := lw_g (lw_at lw_m6 151 rfl) rfl
theorem q1478 : (Jvm.Cond.instanceMethod ({ cls := "AskedNames$Net", name := "hidden", desc := "()I" } : Jvm.MethodName)) ∈ lw_all := lw_g (lw_at lw_m6 153 rfl) rfl
theorem q1479 : (Jvm.Cond.selects "AskedNames$Net" ({ cls := "AskedNames$Net", name := "hidden", desc := "()I" } : Jvm.MethodName) ({ cls := "AskedNames$Net", name := "hidden", desc := "()I" } : Jvm.MethodName)) ∈ lw_all := lw_g (lw_at lw_m6 154 rfl) rfl
theorem q1480 : (Jvm.Cond.code ({ cls := "AskedNames$Net", name := "hidden", desc := "()I" } : Jvm.MethodName) prog_13_method_16_code (4 : Nat) (Option.some Jvm.ClassFile.FieldType.int)) ∈ lw_all := lw_g (lw_at lw_m6 155 rfl) rfl
theorem q1481 : (Jvm.Cond.methodLink "AskedNames$Net" (127 : Nat) ({ cls := "AskedNames$Route", name := "isLike", desc := "(LAskedNames$Route;)Z" } : Jvm.MethodName)) ∈ lw_all := lw_g (lw_at lw_m6 156 rfl) rfl
theorem q1487 : (Jvm.Cond.instanceMethod ({ cls := "AskedNames$Net", name := "served", desc := "()I" } : Jvm.MethodName)) ∈ lw_all := lw_g (lw_at lw_m6 162 rfl) rfl
theorem q1488 : (Jvm.Cond.selects "AskedNames$Net" ({ cls := "AskedNames$Net", name := "served", desc := "()I" } : Jvm.MethodName) ({ cls := "AskedNames$Net", name := "served", desc := "()I" } : Jvm.MethodName)) ∈ lw_all := lw_g (lw_at lw_m6 163 rfl) rfl
theorem q1489 : (Jvm.Cond.code ({ cls := "AskedNames$Net", name := "served", desc := "()I" } : Jvm.MethodName) prog_13_method_17_code (4 : Nat) (Option.some Jvm.ClassFile.FieldType.int)) ∈ lw_all := lw_g (lw_at lw_m6 164 rfl) rfl
theorem q2982 : (Jvm.Cond.castable "AskedNames$Net" "java/lang/Object") ∈ lw_tbl := lw_at lw_m12 217 rfl
theorem in_X5 : ∀ w ∈ wsX50, w ∈ lw_all := lw_in wsX50 [556, 558, 560, 562, 564, 566, 568] (by decide +kernel) (by decide +kernel)

/-! AskedNames$Going -/
set_option maxRecDepth 100000
def RX12 : String := "AskedNames$Going"
def TX12 : u_T := fun k => match k with
  | 0 => ("AskedNames$Going", "net", "LAskedNames$Net;", true)
  | 1 => ("AskedNames$Going", "nodes", "Ljava/util/ArrayList;", true)
  | 2 => ("AskedNames$Going", "ways", "Ljava/util/ArrayList;", true)
  | 3 => ("AskedNames$Going", "down", "[Z", true)
  | 4 => ("AskedNames$Going", "ends", "[[I", true)
  | 5 => ("AskedNames$Going", "minute", "I", false)
  | 6 => ("AskedNames$Going", "sent", "I", false)
  | 7 => ("AskedNames$Going", "hits", "I", false)
  | 8 => ("AskedNames$Going", "joined", "I", false)
  | 9 => ("AskedNames$Going", "loops", "I", false)
  | 10 => ("AskedNames$Going", "dropped", "I", false)
  | _ => ("AskedNames$Going", "missed", "I", false)
def tyX12 : Nat → FieldType := fun k => match k with
  | 0 => .object "AskedNames$Net"
  | 1 => .object "java/util/ArrayList"
  | 2 => .object "java/util/ArrayList"
  | 3 => .array .boolean
  | 4 => .array (.array .int)
  | 5 => .int
  | 6 => .int
  | 7 => .int
  | 8 => .int
  | 9 => .int
  | 10 => .int
  | _ => .int
abbrev wsX120 : List Cond := u_ws RX12 TX12 12
theorem nmX12 : ∀ a, a < 12 → ∀ b, b < 12 → a ≠ b → (TX12 a).2.1 ≠ (TX12 b).2.1 := by decide +kernel
theorem tyX12_ok : ∀ k, k < 12 → parseFieldDescriptor (TX12 k).2.2.1 = some (tyX12 k) := by decide +kernel
abbrev cX12_init : ByteArray := prog_9_method_1_code
def yX12_init : MethodName := ⟨RX12, "<init>", "(LAskedNames$Net;)V"⟩
def dkwX12_init_3 : List UInt8 := [183, 0, 45, 182, 0, 46, 87, 132, 2, 1, 167, 255, 230, 177]
abbrev dktX12_init_3 : List UInt8 := dkwX12_init_3 ++ []
def dkwX12_init_2 : List UInt8 := [43, 181, 0, 34, 3, 61, 28, 43, 180, 0, 38, 162, 0, 24, 42, 180, 0, 14, 187, 0, 43, 89]
abbrev dktX12_init_2 : List UInt8 := dkwX12_init_2 ++ dktX12_init_3
def dkwX12_init_1 : List UInt8 := [183, 0, 20, 181, 0, 21, 42, 16, 36, 188, 4, 181, 0, 24, 42, 16, 61, 189, 0, 28, 181, 0, 30, 42]
abbrev dktX12_init_1 : List UInt8 := dkwX12_init_1 ++ dktX12_init_2
def dkwX12_init_0 : List UInt8 := [42, 183, 0, 3, 42, 187, 0, 9, 89, 16, 6, 183, 0, 11, 181, 0, 14, 42, 187, 0, 9, 89]
abbrev dktX12_init_0 : List UInt8 := dkwX12_init_0 ++ dktX12_init_1
theorem dksX12_init_0 : cX12_init.data.toList.drop 0 = dktX12_init_0 := by decide +kernel
theorem dksX12_init_1 : cX12_init.data.toList.drop 22 = dktX12_init_1 := dk_seg dksX12_init_0 22 rfl rfl
theorem dksX12_init_2 : cX12_init.data.toList.drop 46 = dktX12_init_2 := dk_seg dksX12_init_1 24 rfl rfl
theorem dksX12_init_3 : cX12_init.data.toList.drop 68 = dktX12_init_3 := dk_seg dksX12_init_2 22 rfl rfl
theorem dX12_init_0 : decode cX12_init 0 = .ok (.aload_n 0, 1) := dk_42 (dk_at dksX12_init_0 0 rfl rfl)
theorem dX12_init_1 : decode cX12_init 1 = .ok (.invokespecial 3, 3) := dk_183 0 3 (dk_at dksX12_init_0 1 rfl rfl)
theorem dX12_init_4 : decode cX12_init 4 = .ok (.aload_n 0, 1) := dk_42 (dk_at dksX12_init_0 4 rfl rfl)
theorem dX12_init_5 : decode cX12_init 5 = .ok (.new 9, 3) := dk_187 0 9 (dk_at dksX12_init_0 5 rfl rfl)
theorem dX12_init_8 : decode cX12_init 8 = .ok (.dup, 1) := dk_89 (dk_at dksX12_init_0 8 rfl rfl)
theorem dX12_init_9 : decode cX12_init 9 = .ok (.bipush 6, 2) := dk_16 6 (dk_at dksX12_init_0 9 rfl rfl)
theorem dX12_init_11 : decode cX12_init 11 = .ok (.invokespecial 11, 3) := dk_183 0 11 (dk_at dksX12_init_0 11 rfl rfl)
theorem dX12_init_14 : decode cX12_init 14 = .ok (.putfield 14, 3) := dk_181 0 14 (dk_at dksX12_init_0 14 rfl rfl)
theorem dX12_init_17 : decode cX12_init 17 = .ok (.aload_n 0, 1) := dk_42 (dk_at dksX12_init_0 17 rfl rfl)
theorem dX12_init_18 : decode cX12_init 18 = .ok (.new 9, 3) := dk_187 0 9 (dk_at dksX12_init_0 18 rfl rfl)
theorem dX12_init_21 : decode cX12_init 21 = .ok (.dup, 1) := dk_89 (dk_at dksX12_init_0 21 rfl rfl)
theorem dX12_init_22 : decode cX12_init 22 = .ok (.invokespecial 20, 3) := dk_183 0 20 (dk_at dksX12_init_1 0 rfl rfl)
theorem dX12_init_25 : decode cX12_init 25 = .ok (.putfield 21, 3) := dk_181 0 21 (dk_at dksX12_init_1 3 rfl rfl)
theorem dX12_init_28 : decode cX12_init 28 = .ok (.aload_n 0, 1) := dk_42 (dk_at dksX12_init_1 6 rfl rfl)
theorem dX12_init_29 : decode cX12_init 29 = .ok (.bipush 36, 2) := dk_16 36 (dk_at dksX12_init_1 7 rfl rfl)
theorem dX12_init_31 : decode cX12_init 31 = .ok (.newarray .boolean, 2) := dk_188_4 (dk_at dksX12_init_1 9 rfl rfl)
theorem dX12_init_33 : decode cX12_init 33 = .ok (.putfield 24, 3) := dk_181 0 24 (dk_at dksX12_init_1 11 rfl rfl)
theorem dX12_init_36 : decode cX12_init 36 = .ok (.aload_n 0, 1) := dk_42 (dk_at dksX12_init_1 14 rfl rfl)
theorem dX12_init_37 : decode cX12_init 37 = .ok (.bipush 61, 2) := dk_16 61 (dk_at dksX12_init_1 15 rfl rfl)
theorem dX12_init_39 : decode cX12_init 39 = .ok (.anewarray 28, 3) := dk_189 0 28 (dk_at dksX12_init_1 17 rfl rfl)
theorem dX12_init_42 : decode cX12_init 42 = .ok (.putfield 30, 3) := dk_181 0 30 (dk_at dksX12_init_1 20 rfl rfl)
theorem dX12_init_45 : decode cX12_init 45 = .ok (.aload_n 0, 1) := dk_42 (dk_at dksX12_init_1 23 rfl rfl)
theorem dX12_init_46 : decode cX12_init 46 = .ok (.aload_n 1, 1) := dk_43 (dk_at dksX12_init_2 0 rfl rfl)
theorem dX12_init_47 : decode cX12_init 47 = .ok (.putfield 34, 3) := dk_181 0 34 (dk_at dksX12_init_2 1 rfl rfl)
theorem dX12_init_50 : decode cX12_init 50 = .ok (.iconst 0, 1) := dk_3 (dk_at dksX12_init_2 4 rfl rfl)
theorem dX12_init_51 : decode cX12_init 51 = .ok (.istore_n 2, 1) := dk_61 (dk_at dksX12_init_2 5 rfl rfl)
theorem dX12_init_52 : decode cX12_init 52 = .ok (.iload_n 2, 1) := dk_28 (dk_at dksX12_init_2 6 rfl rfl)
theorem dX12_init_53 : decode cX12_init 53 = .ok (.aload_n 1, 1) := dk_43 (dk_at dksX12_init_2 7 rfl rfl)
theorem dX12_init_54 : decode cX12_init 54 = .ok (.getfield 38, 3) := dk_180 0 38 (dk_at dksX12_init_2 8 rfl rfl)
theorem dX12_init_57 : decode cX12_init 57 = .ok (.if_icmp .ge 24, 3) := dk_162 0 24 (dk_at dksX12_init_2 11 rfl rfl)
theorem dX12_init_60 : decode cX12_init 60 = .ok (.aload_n 0, 1) := dk_42 (dk_at dksX12_init_2 14 rfl rfl)
theorem dX12_init_61 : decode cX12_init 61 = .ok (.getfield 14, 3) := dk_180 0 14 (dk_at dksX12_init_2 15 rfl rfl)
theorem dX12_init_64 : decode cX12_init 64 = .ok (.new 43, 3) := dk_187 0 43 (dk_at dksX12_init_2 18 rfl rfl)
theorem dX12_init_67 : decode cX12_init 67 = .ok (.dup, 1) := dk_89 (dk_at dksX12_init_2 21 rfl rfl)
theorem dX12_init_68 : decode cX12_init 68 = .ok (.invokespecial 45, 3) := dk_183 0 45 (dk_at dksX12_init_3 0 rfl rfl)
theorem dX12_init_71 : decode cX12_init 71 = .ok (.invokevirtual 46, 3) := dk_182 0 46 (dk_at dksX12_init_3 3 rfl rfl)
theorem dX12_init_74 : decode cX12_init 74 = .ok (.pop, 1) := dk_87 (dk_at dksX12_init_3 6 rfl rfl)
theorem dX12_init_75 : decode cX12_init 75 = .ok (.iinc 2 1, 3) := dk_132 2 1 (dk_at dksX12_init_3 7 rfl rfl)
theorem dX12_init_78 : decode cX12_init 78 = .ok (.goto (-26), 3) := dk_167 255 230 (dk_at dksX12_init_3 10 rfl rfl)
theorem dX12_init_81 : decode cX12_init 81 = .ok (.return_, 1) := dk_177 (dk_at dksX12_init_3 13 rfl rfl)
abbrev cX12_ways : ByteArray := prog_9_method_13_code
def yX12_ways : MethodName := ⟨RX12, "ways", "(ILjava/lang/String;I)I"⟩
def dkwX12_ways_5 : List UInt8 := [25, 7, 180, 0, 227, 120, 128, 54, 5, 132, 6, 1, 167, 255, 145, 21, 5, 172]
abbrev dktX12_ways_5 : List UInt8 := dkwX12_ways_5 ++ []
def dkwX12_ways_4 : List UInt8 := [180, 0, 227, 182, 0, 89, 153, 0, 27, 29, 25, 7, 180, 0, 227, 184, 0, 228, 154, 0, 15, 21, 5, 4]
abbrev dktX12_ways_4 : List UInt8 := dkwX12_ways_4 ++ dktX12_ways_5
def dkwX12_ways_3 : List UInt8 := [182, 0, 218, 21, 4, 160, 0, 52, 44, 25, 7, 180, 0, 217, 182, 0, 223, 153, 0, 40, 42, 27, 25, 7]
abbrev dktX12_ways_3 : List UInt8 := dkwX12_ways_3 ++ dktX12_ways_4
def dkwX12_ways_2 : List UInt8 := [182, 0, 148, 192, 0, 185, 58, 7, 25, 7, 180, 0, 215, 27, 160, 0, 65, 25, 7, 180, 0, 217]
abbrev dktX12_ways_2 : List UInt8 := dkwX12_ways_2 ++ dktX12_ways_3
def dkwX12_ways_1 : List UInt8 := [180, 0, 212, 182, 0, 74, 162, 0, 102, 21, 4, 158, 0, 97, 42, 180, 0, 34, 180, 0, 212, 21, 6]
abbrev dktX12_ways_1 : List UInt8 := dkwX12_ways_1 ++ dktX12_ways_2
def dkwX12_ways_0 : List UInt8 := [42, 180, 0, 34, 27, 44, 182, 0, 208, 54, 4, 3, 54, 5, 3, 54, 6, 21, 6, 42, 180, 0, 34]
abbrev dktX12_ways_0 : List UInt8 := dkwX12_ways_0 ++ dktX12_ways_1
theorem dksX12_ways_0 : cX12_ways.data.toList.drop 0 = dktX12_ways_0 := by decide +kernel
theorem dksX12_ways_1 : cX12_ways.data.toList.drop 23 = dktX12_ways_1 := dk_seg dksX12_ways_0 23 rfl rfl
theorem dksX12_ways_2 : cX12_ways.data.toList.drop 46 = dktX12_ways_2 := dk_seg dksX12_ways_1 23 rfl rfl
theorem dksX12_ways_3 : cX12_ways.data.toList.drop 68 = dktX12_ways_3 := dk_seg dksX12_ways_2 22 rfl rfl
theorem dksX12_ways_4 : cX12_ways.data.toList.drop 92 = dktX12_ways_4 := dk_seg dksX12_ways_3 24 rfl rfl
theorem dksX12_ways_5 : cX12_ways.data.toList.drop 116 = dktX12_ways_5 := dk_seg dksX12_ways_4 24 rfl rfl
theorem dX12_ways_0 : decode cX12_ways 0 = .ok (.aload_n 0, 1) := dk_42 (dk_at dksX12_ways_0 0 rfl rfl)
theorem dX12_ways_1 : decode cX12_ways 1 = .ok (.getfield 34, 3) := dk_180 0 34 (dk_at dksX12_ways_0 1 rfl rfl)
theorem dX12_ways_4 : decode cX12_ways 4 = .ok (.iload_n 1, 1) := dk_27 (dk_at dksX12_ways_0 4 rfl rfl)
theorem dX12_ways_5 : decode cX12_ways 5 = .ok (.aload_n 2, 1) := dk_44 (dk_at dksX12_ways_0 5 rfl rfl)
theorem dX12_ways_6 : decode cX12_ways 6 = .ok (.invokevirtual 208, 3) := dk_182 0 208 (dk_at dksX12_ways_0 6 rfl rfl)
theorem dX12_ways_9 : decode cX12_ways 9 = .ok (.istore 4, 2) := dk_54 4 (dk_at dksX12_ways_0 9 rfl rfl)
theorem dX12_ways_11 : decode cX12_ways 11 = .ok (.iconst 0, 1) := dk_3 (dk_at dksX12_ways_0 11 rfl rfl)
theorem dX12_ways_12 : decode cX12_ways 12 = .ok (.istore 5, 2) := dk_54 5 (dk_at dksX12_ways_0 12 rfl rfl)
theorem dX12_ways_14 : decode cX12_ways 14 = .ok (.iconst 0, 1) := dk_3 (dk_at dksX12_ways_0 14 rfl rfl)
theorem dX12_ways_15 : decode cX12_ways 15 = .ok (.istore 6, 2) := dk_54 6 (dk_at dksX12_ways_0 15 rfl rfl)
theorem dX12_ways_17 : decode cX12_ways 17 = .ok (.iload 6, 2) := dk_21 6 (dk_at dksX12_ways_0 17 rfl rfl)
theorem dX12_ways_19 : decode cX12_ways 19 = .ok (.aload_n 0, 1) := dk_42 (dk_at dksX12_ways_0 19 rfl rfl)
theorem dX12_ways_20 : decode cX12_ways 20 = .ok (.getfield 34, 3) := dk_180 0 34 (dk_at dksX12_ways_0 20 rfl rfl)
theorem dX12_ways_23 : decode cX12_ways 23 = .ok (.getfield 212, 3) := dk_180 0 212 (dk_at dksX12_ways_1 0 rfl rfl)
theorem dX12_ways_26 : decode cX12_ways 26 = .ok (.invokevirtual 74, 3) := dk_182 0 74 (dk_at dksX12_ways_1 3 rfl rfl)
theorem dX12_ways_29 : decode cX12_ways 29 = .ok (.if_icmp .ge 102, 3) := dk_162 0 102 (dk_at dksX12_ways_1 6 rfl rfl)
theorem dX12_ways_32 : decode cX12_ways 32 = .ok (.iload 4, 2) := dk_21 4 (dk_at dksX12_ways_1 9 rfl rfl)
theorem dX12_ways_34 : decode cX12_ways 34 = .ok (.ifCond .le 97, 3) := dk_158 0 97 (dk_at dksX12_ways_1 11 rfl rfl)
theorem dX12_ways_37 : decode cX12_ways 37 = .ok (.aload_n 0, 1) := dk_42 (dk_at dksX12_ways_1 14 rfl rfl)
theorem dX12_ways_38 : decode cX12_ways 38 = .ok (.getfield 34, 3) := dk_180 0 34 (dk_at dksX12_ways_1 15 rfl rfl)
theorem dX12_ways_41 : decode cX12_ways 41 = .ok (.getfield 212, 3) := dk_180 0 212 (dk_at dksX12_ways_1 18 rfl rfl)
theorem dX12_ways_44 : decode cX12_ways 44 = .ok (.iload 6, 2) := dk_21 6 (dk_at dksX12_ways_1 21 rfl rfl)
theorem dX12_ways_46 : decode cX12_ways 46 = .ok (.invokevirtual 148, 3) := dk_182 0 148 (dk_at dksX12_ways_2 0 rfl rfl)
theorem dX12_ways_49 : decode cX12_ways 49 = .ok (.checkcast 185, 3) := dk_192 0 185 (dk_at dksX12_ways_2 3 rfl rfl)
theorem dX12_ways_52 : decode cX12_ways 52 = .ok (.astore 7, 2) := dk_58 7 (dk_at dksX12_ways_2 6 rfl rfl)
theorem dX12_ways_54 : decode cX12_ways 54 = .ok (.aload 7, 2) := dk_25 7 (dk_at dksX12_ways_2 8 rfl rfl)
theorem dX12_ways_56 : decode cX12_ways 56 = .ok (.getfield 215, 3) := dk_180 0 215 (dk_at dksX12_ways_2 10 rfl rfl)
theorem dX12_ways_59 : decode cX12_ways 59 = .ok (.iload_n 1, 1) := dk_27 (dk_at dksX12_ways_2 13 rfl rfl)
theorem dX12_ways_60 : decode cX12_ways 60 = .ok (.if_icmp .ne 65, 3) := dk_160 0 65 (dk_at dksX12_ways_2 14 rfl rfl)
theorem dX12_ways_63 : decode cX12_ways 63 = .ok (.aload 7, 2) := dk_25 7 (dk_at dksX12_ways_2 17 rfl rfl)
theorem dX12_ways_65 : decode cX12_ways 65 = .ok (.getfield 217, 3) := dk_180 0 217 (dk_at dksX12_ways_2 19 rfl rfl)
theorem dX12_ways_68 : decode cX12_ways 68 = .ok (.invokevirtual 218, 3) := dk_182 0 218 (dk_at dksX12_ways_3 0 rfl rfl)
theorem dX12_ways_71 : decode cX12_ways 71 = .ok (.iload 4, 2) := dk_21 4 (dk_at dksX12_ways_3 3 rfl rfl)
theorem dX12_ways_73 : decode cX12_ways 73 = .ok (.if_icmp .ne 52, 3) := dk_160 0 52 (dk_at dksX12_ways_3 5 rfl rfl)
theorem dX12_ways_76 : decode cX12_ways 76 = .ok (.aload_n 2, 1) := dk_44 (dk_at dksX12_ways_3 8 rfl rfl)
theorem dX12_ways_77 : decode cX12_ways 77 = .ok (.aload 7, 2) := dk_25 7 (dk_at dksX12_ways_3 9 rfl rfl)
theorem dX12_ways_79 : decode cX12_ways 79 = .ok (.getfield 217, 3) := dk_180 0 217 (dk_at dksX12_ways_3 11 rfl rfl)
theorem dX12_ways_82 : decode cX12_ways 82 = .ok (.invokevirtual 223, 3) := dk_182 0 223 (dk_at dksX12_ways_3 14 rfl rfl)
theorem dX12_ways_85 : decode cX12_ways 85 = .ok (.ifCond .eq 40, 3) := dk_153 0 40 (dk_at dksX12_ways_3 17 rfl rfl)
theorem dX12_ways_88 : decode cX12_ways 88 = .ok (.aload_n 0, 1) := dk_42 (dk_at dksX12_ways_3 20 rfl rfl)
theorem dX12_ways_89 : decode cX12_ways 89 = .ok (.iload_n 1, 1) := dk_27 (dk_at dksX12_ways_3 21 rfl rfl)
theorem dX12_ways_90 : decode cX12_ways 90 = .ok (.aload 7, 2) := dk_25 7 (dk_at dksX12_ways_3 22 rfl rfl)
theorem dX12_ways_92 : decode cX12_ways 92 = .ok (.getfield 227, 3) := dk_180 0 227 (dk_at dksX12_ways_4 0 rfl rfl)
theorem dX12_ways_95 : decode cX12_ways 95 = .ok (.invokevirtual 89, 3) := dk_182 0 89 (dk_at dksX12_ways_4 3 rfl rfl)
theorem dX12_ways_98 : decode cX12_ways 98 = .ok (.ifCond .eq 27, 3) := dk_153 0 27 (dk_at dksX12_ways_4 6 rfl rfl)
theorem dX12_ways_101 : decode cX12_ways 101 = .ok (.iload_n 3, 1) := dk_29 (dk_at dksX12_ways_4 9 rfl rfl)
theorem dX12_ways_102 : decode cX12_ways 102 = .ok (.aload 7, 2) := dk_25 7 (dk_at dksX12_ways_4 10 rfl rfl)
theorem dX12_ways_104 : decode cX12_ways 104 = .ok (.getfield 227, 3) := dk_180 0 227 (dk_at dksX12_ways_4 12 rfl rfl)
theorem dX12_ways_107 : decode cX12_ways 107 = .ok (.invokestatic 228, 3) := dk_184 0 228 (dk_at dksX12_ways_4 15 rfl rfl)
theorem dX12_ways_110 : decode cX12_ways 110 = .ok (.ifCond .ne 15, 3) := dk_154 0 15 (dk_at dksX12_ways_4 18 rfl rfl)
theorem dX12_ways_113 : decode cX12_ways 113 = .ok (.iload 5, 2) := dk_21 5 (dk_at dksX12_ways_4 21 rfl rfl)
theorem dX12_ways_115 : decode cX12_ways 115 = .ok (.iconst 1, 1) := dk_4 (dk_at dksX12_ways_4 23 rfl rfl)
theorem dX12_ways_116 : decode cX12_ways 116 = .ok (.aload 7, 2) := dk_25 7 (dk_at dksX12_ways_5 0 rfl rfl)
theorem dX12_ways_118 : decode cX12_ways 118 = .ok (.getfield 227, 3) := dk_180 0 227 (dk_at dksX12_ways_5 2 rfl rfl)
theorem dX12_ways_121 : decode cX12_ways 121 = .ok (.ishl, 1) := dk_120 (dk_at dksX12_ways_5 5 rfl rfl)
theorem dX12_ways_122 : decode cX12_ways 122 = .ok (.ior, 1) := dk_128 (dk_at dksX12_ways_5 6 rfl rfl)
theorem dX12_ways_123 : decode cX12_ways 123 = .ok (.istore 5, 2) := dk_54 5 (dk_at dksX12_ways_5 7 rfl rfl)
theorem dX12_ways_125 : decode cX12_ways 125 = .ok (.iinc 6 1, 3) := dk_132 6 1 (dk_at dksX12_ways_5 9 rfl rfl)
theorem dX12_ways_128 : decode cX12_ways 128 = .ok (.goto (-111), 3) := dk_167 255 145 (dk_at dksX12_ways_5 12 rfl rfl)
theorem dX12_ways_131 : decode cX12_ways 131 = .ok (.iload 5, 2) := dk_21 5 (dk_at dksX12_ways_5 15 rfl rfl)
theorem dX12_ways_133 : decode cX12_ways 133 = .ok (.ireturn, 1) := dk_172 (dk_at dksX12_ways_5 17 rfl rfl)
abbrev cX12_isUp : ByteArray := prog_9_method_2_code
def yX12_isUp : MethodName := ⟨RX12, "isUp", "(II)Z"⟩
def dkwX12_isUp_1 : List UInt8 := [154, 0, 7, 4, 167, 0, 4, 3, 172]
abbrev dktX12_isUp_1 : List UInt8 := dkwX12_isUp_1 ++ []
def dkwX12_isUp_0 : List UInt8 := [42, 180, 0, 34, 27, 28, 182, 0, 50, 153, 0, 21, 42, 180, 0, 24, 16, 6, 27, 104, 28, 96, 51]
abbrev dktX12_isUp_0 : List UInt8 := dkwX12_isUp_0 ++ dktX12_isUp_1
theorem dksX12_isUp_0 : cX12_isUp.data.toList.drop 0 = dktX12_isUp_0 := by decide +kernel
theorem dksX12_isUp_1 : cX12_isUp.data.toList.drop 23 = dktX12_isUp_1 := dk_seg dksX12_isUp_0 23 rfl rfl
theorem dX12_isUp_0 : decode cX12_isUp 0 = .ok (.aload_n 0, 1) := dk_42 (dk_at dksX12_isUp_0 0 rfl rfl)
theorem dX12_isUp_1 : decode cX12_isUp 1 = .ok (.getfield 34, 3) := dk_180 0 34 (dk_at dksX12_isUp_0 1 rfl rfl)
theorem dX12_isUp_4 : decode cX12_isUp 4 = .ok (.iload_n 1, 1) := dk_27 (dk_at dksX12_isUp_0 4 rfl rfl)
theorem dX12_isUp_5 : decode cX12_isUp 5 = .ok (.iload_n 2, 1) := dk_28 (dk_at dksX12_isUp_0 5 rfl rfl)
theorem dX12_isUp_6 : decode cX12_isUp 6 = .ok (.invokevirtual 50, 3) := dk_182 0 50 (dk_at dksX12_isUp_0 6 rfl rfl)
theorem dX12_isUp_9 : decode cX12_isUp 9 = .ok (.ifCond .eq 21, 3) := dk_153 0 21 (dk_at dksX12_isUp_0 9 rfl rfl)
theorem dX12_isUp_12 : decode cX12_isUp 12 = .ok (.aload_n 0, 1) := dk_42 (dk_at dksX12_isUp_0 12 rfl rfl)
theorem dX12_isUp_13 : decode cX12_isUp 13 = .ok (.getfield 24, 3) := dk_180 0 24 (dk_at dksX12_isUp_0 13 rfl rfl)
theorem dX12_isUp_16 : decode cX12_isUp 16 = .ok (.bipush 6, 2) := dk_16 6 (dk_at dksX12_isUp_0 16 rfl rfl)
theorem dX12_isUp_18 : decode cX12_isUp 18 = .ok (.iload_n 1, 1) := dk_27 (dk_at dksX12_isUp_0 18 rfl rfl)
theorem dX12_isUp_19 : decode cX12_isUp 19 = .ok (.imul, 1) := dk_104 (dk_at dksX12_isUp_0 19 rfl rfl)
theorem dX12_isUp_20 : decode cX12_isUp 20 = .ok (.iload_n 2, 1) := dk_28 (dk_at dksX12_isUp_0 20 rfl rfl)
theorem dX12_isUp_21 : decode cX12_isUp 21 = .ok (.iadd, 1) := dk_96 (dk_at dksX12_isUp_0 21 rfl rfl)
theorem dX12_isUp_22 : decode cX12_isUp 22 = .ok (.baload, 1) := dk_51 (dk_at dksX12_isUp_0 22 rfl rfl)
theorem dX12_isUp_23 : decode cX12_isUp 23 = .ok (.ifCond .ne 7, 3) := dk_154 0 7 (dk_at dksX12_isUp_1 0 rfl rfl)
theorem dX12_isUp_26 : decode cX12_isUp 26 = .ok (.iconst 1, 1) := dk_4 (dk_at dksX12_isUp_1 3 rfl rfl)
theorem dX12_isUp_27 : decode cX12_isUp 27 = .ok (.goto 4, 3) := dk_167 0 4 (dk_at dksX12_isUp_1 4 rfl rfl)
theorem dX12_isUp_30 : decode cX12_isUp 30 = .ok (.iconst 0, 1) := dk_3 (dk_at dksX12_isUp_1 7 rfl rfl)
theorem dX12_isUp_31 : decode cX12_isUp 31 = .ok (.ireturn, 1) := dk_172 (dk_at dksX12_isUp_1 8 rfl rfl)
abbrev cX12_trail : ByteArray := prog_9_method_16_code
def yX12_trail : MethodName := ⟨RX12, "trail", "(ILjava/lang/String;)[I"⟩
def dkwX12_trail_6 : List UInt8 := [184, 0, 228, 153, 0, 7, 6, 167, 0, 4, 4, 79, 25, 8, 176]
abbrev dktX12_trail_6 : List UInt8 := dkwX12_trail_6 ++ []
def dkwX12_trail_5 : List UInt8 := [184, 0, 249, 58, 8, 25, 8, 21, 4, 21, 7, 2, 160, 0, 7, 5, 167, 0, 18, 21, 5, 21, 7]
abbrev dktX12_trail_5 : List UInt8 := dkwX12_trail_5 ++ dktX12_trail_6
def dkwX12_trail_4 : List UInt8 := [167, 255, 178, 21, 7, 2, 159, 0, 12, 45, 21, 4, 21, 7, 79, 132, 4, 1, 45, 21, 4, 4, 96]
abbrev dktX12_trail_4 : List UInt8 := dkwX12_trail_4 ++ dktX12_trail_5
def dkwX12_trail_3 : List UInt8 := [160, 0, 7, 3, 167, 0, 7, 4, 21, 6, 120, 182, 0, 246, 54, 8, 21, 7, 54, 6, 21, 8, 54, 7]
abbrev dktX12_trail_3 : List UInt8 := dkwX12_trail_3 ++ dktX12_trail_4
def dkwX12_trail_2 : List UInt8 := [21, 4, 21, 7, 79, 132, 4, 1, 21, 5, 4, 21, 7, 120, 128, 54, 5, 42, 21, 7, 44, 21, 6, 2]
abbrev dktX12_trail_2 : List UInt8 := dkwX12_trail_2 ++ dktX12_trail_3
def dkwX12_trail_1 : List UInt8 := [21, 5, 21, 7, 184, 0, 228, 154, 0, 68, 42, 180, 0, 34, 21, 7, 44, 182, 0, 173, 199, 0, 55, 45]
abbrev dktX12_trail_1 : List UInt8 := dkwX12_trail_1 ++ dktX12_trail_2
def dkwX12_trail_0 : List UInt8 := [16, 8, 188, 10, 78, 3, 54, 4, 3, 54, 5, 2, 54, 6, 27, 54, 7, 21, 7, 2, 159, 0, 78]
abbrev dktX12_trail_0 : List UInt8 := dkwX12_trail_0 ++ dktX12_trail_1
theorem dksX12_trail_0 : cX12_trail.data.toList.drop 0 = dktX12_trail_0 := by decide +kernel
theorem dksX12_trail_1 : cX12_trail.data.toList.drop 23 = dktX12_trail_1 := dk_seg dksX12_trail_0 23 rfl rfl
theorem dksX12_trail_2 : cX12_trail.data.toList.drop 47 = dktX12_trail_2 := dk_seg dksX12_trail_1 24 rfl rfl
theorem dksX12_trail_3 : cX12_trail.data.toList.drop 71 = dktX12_trail_3 := dk_seg dksX12_trail_2 24 rfl rfl
theorem dksX12_trail_4 : cX12_trail.data.toList.drop 95 = dktX12_trail_4 := dk_seg dksX12_trail_3 24 rfl rfl
theorem dksX12_trail_5 : cX12_trail.data.toList.drop 118 = dktX12_trail_5 := dk_seg dksX12_trail_4 23 rfl rfl
theorem dksX12_trail_6 : cX12_trail.data.toList.drop 141 = dktX12_trail_6 := dk_seg dksX12_trail_5 23 rfl rfl
theorem dX12_trail_0 : decode cX12_trail 0 = .ok (.bipush 8, 2) := dk_16 8 (dk_at dksX12_trail_0 0 rfl rfl)
theorem dX12_trail_2 : decode cX12_trail 2 = .ok (.newarray .int, 2) := dk_188_10 (dk_at dksX12_trail_0 2 rfl rfl)
theorem dX12_trail_4 : decode cX12_trail 4 = .ok (.astore_n 3, 1) := dk_78 (dk_at dksX12_trail_0 4 rfl rfl)
theorem dX12_trail_5 : decode cX12_trail 5 = .ok (.iconst 0, 1) := dk_3 (dk_at dksX12_trail_0 5 rfl rfl)
theorem dX12_trail_6 : decode cX12_trail 6 = .ok (.istore 4, 2) := dk_54 4 (dk_at dksX12_trail_0 6 rfl rfl)
theorem dX12_trail_8 : decode cX12_trail 8 = .ok (.iconst 0, 1) := dk_3 (dk_at dksX12_trail_0 8 rfl rfl)
theorem dX12_trail_9 : decode cX12_trail 9 = .ok (.istore 5, 2) := dk_54 5 (dk_at dksX12_trail_0 9 rfl rfl)
theorem dX12_trail_11 : decode cX12_trail 11 = .ok (.iconst (-1), 1) := dk_2 (dk_at dksX12_trail_0 11 rfl rfl)
theorem dX12_trail_12 : decode cX12_trail 12 = .ok (.istore 6, 2) := dk_54 6 (dk_at dksX12_trail_0 12 rfl rfl)
theorem dX12_trail_14 : decode cX12_trail 14 = .ok (.iload_n 1, 1) := dk_27 (dk_at dksX12_trail_0 14 rfl rfl)
theorem dX12_trail_15 : decode cX12_trail 15 = .ok (.istore 7, 2) := dk_54 7 (dk_at dksX12_trail_0 15 rfl rfl)
theorem dX12_trail_17 : decode cX12_trail 17 = .ok (.iload 7, 2) := dk_21 7 (dk_at dksX12_trail_0 17 rfl rfl)
theorem dX12_trail_19 : decode cX12_trail 19 = .ok (.iconst (-1), 1) := dk_2 (dk_at dksX12_trail_0 19 rfl rfl)
theorem dX12_trail_20 : decode cX12_trail 20 = .ok (.if_icmp .eq 78, 3) := dk_159 0 78 (dk_at dksX12_trail_0 20 rfl rfl)
theorem dX12_trail_23 : decode cX12_trail 23 = .ok (.iload 5, 2) := dk_21 5 (dk_at dksX12_trail_1 0 rfl rfl)
theorem dX12_trail_25 : decode cX12_trail 25 = .ok (.iload 7, 2) := dk_21 7 (dk_at dksX12_trail_1 2 rfl rfl)
theorem dX12_trail_27 : decode cX12_trail 27 = .ok (.invokestatic 228, 3) := dk_184 0 228 (dk_at dksX12_trail_1 4 rfl rfl)
theorem dX12_trail_30 : decode cX12_trail 30 = .ok (.ifCond .ne 68, 3) := dk_154 0 68 (dk_at dksX12_trail_1 7 rfl rfl)
theorem dX12_trail_33 : decode cX12_trail 33 = .ok (.aload_n 0, 1) := dk_42 (dk_at dksX12_trail_1 10 rfl rfl)
theorem dX12_trail_34 : decode cX12_trail 34 = .ok (.getfield 34, 3) := dk_180 0 34 (dk_at dksX12_trail_1 11 rfl rfl)
theorem dX12_trail_37 : decode cX12_trail 37 = .ok (.iload 7, 2) := dk_21 7 (dk_at dksX12_trail_1 14 rfl rfl)
theorem dX12_trail_39 : decode cX12_trail 39 = .ok (.aload_n 2, 1) := dk_44 (dk_at dksX12_trail_1 16 rfl rfl)
theorem dX12_trail_40 : decode cX12_trail 40 = .ok (.invokevirtual 173, 3) := dk_182 0 173 (dk_at dksX12_trail_1 17 rfl rfl)
theorem dX12_trail_43 : decode cX12_trail 43 = .ok (.ifnonnull 55, 3) := dk_199 0 55 (dk_at dksX12_trail_1 20 rfl rfl)
theorem dX12_trail_46 : decode cX12_trail 46 = .ok (.aload_n 3, 1) := dk_45 (dk_at dksX12_trail_1 23 rfl rfl)
theorem dX12_trail_47 : decode cX12_trail 47 = .ok (.iload 4, 2) := dk_21 4 (dk_at dksX12_trail_2 0 rfl rfl)
theorem dX12_trail_49 : decode cX12_trail 49 = .ok (.iload 7, 2) := dk_21 7 (dk_at dksX12_trail_2 2 rfl rfl)
theorem dX12_trail_51 : decode cX12_trail 51 = .ok (.iastore, 1) := dk_79 (dk_at dksX12_trail_2 4 rfl rfl)
theorem dX12_trail_52 : decode cX12_trail 52 = .ok (.iinc 4 1, 3) := dk_132 4 1 (dk_at dksX12_trail_2 5 rfl rfl)
theorem dX12_trail_55 : decode cX12_trail 55 = .ok (.iload 5, 2) := dk_21 5 (dk_at dksX12_trail_2 8 rfl rfl)
theorem dX12_trail_57 : decode cX12_trail 57 = .ok (.iconst 1, 1) := dk_4 (dk_at dksX12_trail_2 10 rfl rfl)
theorem dX12_trail_58 : decode cX12_trail 58 = .ok (.iload 7, 2) := dk_21 7 (dk_at dksX12_trail_2 11 rfl rfl)
theorem dX12_trail_60 : decode cX12_trail 60 = .ok (.ishl, 1) := dk_120 (dk_at dksX12_trail_2 13 rfl rfl)
theorem dX12_trail_61 : decode cX12_trail 61 = .ok (.ior, 1) := dk_128 (dk_at dksX12_trail_2 14 rfl rfl)
theorem dX12_trail_62 : decode cX12_trail 62 = .ok (.istore 5, 2) := dk_54 5 (dk_at dksX12_trail_2 15 rfl rfl)
theorem dX12_trail_64 : decode cX12_trail 64 = .ok (.aload_n 0, 1) := dk_42 (dk_at dksX12_trail_2 17 rfl rfl)
theorem dX12_trail_65 : decode cX12_trail 65 = .ok (.iload 7, 2) := dk_21 7 (dk_at dksX12_trail_2 18 rfl rfl)
theorem dX12_trail_67 : decode cX12_trail 67 = .ok (.aload_n 2, 1) := dk_44 (dk_at dksX12_trail_2 20 rfl rfl)
theorem dX12_trail_68 : decode cX12_trail 68 = .ok (.iload 6, 2) := dk_21 6 (dk_at dksX12_trail_2 21 rfl rfl)
theorem dX12_trail_70 : decode cX12_trail 70 = .ok (.iconst (-1), 1) := dk_2 (dk_at dksX12_trail_2 23 rfl rfl)
theorem dX12_trail_71 : decode cX12_trail 71 = .ok (.if_icmp .ne 7, 3) := dk_160 0 7 (dk_at dksX12_trail_3 0 rfl rfl)
theorem dX12_trail_74 : decode cX12_trail 74 = .ok (.iconst 0, 1) := dk_3 (dk_at dksX12_trail_3 3 rfl rfl)
theorem dX12_trail_75 : decode cX12_trail 75 = .ok (.goto 7, 3) := dk_167 0 7 (dk_at dksX12_trail_3 4 rfl rfl)
theorem dX12_trail_78 : decode cX12_trail 78 = .ok (.iconst 1, 1) := dk_4 (dk_at dksX12_trail_3 7 rfl rfl)
theorem dX12_trail_79 : decode cX12_trail 79 = .ok (.iload 6, 2) := dk_21 6 (dk_at dksX12_trail_3 8 rfl rfl)
theorem dX12_trail_81 : decode cX12_trail 81 = .ok (.ishl, 1) := dk_120 (dk_at dksX12_trail_3 10 rfl rfl)
theorem dX12_trail_82 : decode cX12_trail 82 = .ok (.invokevirtual 246, 3) := dk_182 0 246 (dk_at dksX12_trail_3 11 rfl rfl)
theorem dX12_trail_85 : decode cX12_trail 85 = .ok (.istore 8, 2) := dk_54 8 (dk_at dksX12_trail_3 14 rfl rfl)
theorem dX12_trail_87 : decode cX12_trail 87 = .ok (.iload 7, 2) := dk_21 7 (dk_at dksX12_trail_3 16 rfl rfl)
theorem dX12_trail_89 : decode cX12_trail 89 = .ok (.istore 6, 2) := dk_54 6 (dk_at dksX12_trail_3 18 rfl rfl)
theorem dX12_trail_91 : decode cX12_trail 91 = .ok (.iload 8, 2) := dk_21 8 (dk_at dksX12_trail_3 20 rfl rfl)
theorem dX12_trail_93 : decode cX12_trail 93 = .ok (.istore 7, 2) := dk_54 7 (dk_at dksX12_trail_3 22 rfl rfl)
theorem dX12_trail_95 : decode cX12_trail 95 = .ok (.goto (-78), 3) := dk_167 255 178 (dk_at dksX12_trail_4 0 rfl rfl)
theorem dX12_trail_98 : decode cX12_trail 98 = .ok (.iload 7, 2) := dk_21 7 (dk_at dksX12_trail_4 3 rfl rfl)
theorem dX12_trail_100 : decode cX12_trail 100 = .ok (.iconst (-1), 1) := dk_2 (dk_at dksX12_trail_4 5 rfl rfl)
theorem dX12_trail_101 : decode cX12_trail 101 = .ok (.if_icmp .eq 12, 3) := dk_159 0 12 (dk_at dksX12_trail_4 6 rfl rfl)
theorem dX12_trail_104 : decode cX12_trail 104 = .ok (.aload_n 3, 1) := dk_45 (dk_at dksX12_trail_4 9 rfl rfl)
theorem dX12_trail_105 : decode cX12_trail 105 = .ok (.iload 4, 2) := dk_21 4 (dk_at dksX12_trail_4 10 rfl rfl)
theorem dX12_trail_107 : decode cX12_trail 107 = .ok (.iload 7, 2) := dk_21 7 (dk_at dksX12_trail_4 12 rfl rfl)
theorem dX12_trail_109 : decode cX12_trail 109 = .ok (.iastore, 1) := dk_79 (dk_at dksX12_trail_4 14 rfl rfl)
theorem dX12_trail_110 : decode cX12_trail 110 = .ok (.iinc 4 1, 3) := dk_132 4 1 (dk_at dksX12_trail_4 15 rfl rfl)
theorem dX12_trail_113 : decode cX12_trail 113 = .ok (.aload_n 3, 1) := dk_45 (dk_at dksX12_trail_4 18 rfl rfl)
theorem dX12_trail_114 : decode cX12_trail 114 = .ok (.iload 4, 2) := dk_21 4 (dk_at dksX12_trail_4 19 rfl rfl)
theorem dX12_trail_116 : decode cX12_trail 116 = .ok (.iconst 1, 1) := dk_4 (dk_at dksX12_trail_4 21 rfl rfl)
theorem dX12_trail_117 : decode cX12_trail 117 = .ok (.iadd, 1) := dk_96 (dk_at dksX12_trail_4 22 rfl rfl)
theorem dX12_trail_118 : decode cX12_trail 118 = .ok (.invokestatic 249, 3) := dk_184 0 249 (dk_at dksX12_trail_5 0 rfl rfl)
theorem dX12_trail_121 : decode cX12_trail 121 = .ok (.astore 8, 2) := dk_58 8 (dk_at dksX12_trail_5 3 rfl rfl)
theorem dX12_trail_123 : decode cX12_trail 123 = .ok (.aload 8, 2) := dk_25 8 (dk_at dksX12_trail_5 5 rfl rfl)
theorem dX12_trail_125 : decode cX12_trail 125 = .ok (.iload 4, 2) := dk_21 4 (dk_at dksX12_trail_5 7 rfl rfl)
theorem dX12_trail_127 : decode cX12_trail 127 = .ok (.iload 7, 2) := dk_21 7 (dk_at dksX12_trail_5 9 rfl rfl)
theorem dX12_trail_129 : decode cX12_trail 129 = .ok (.iconst (-1), 1) := dk_2 (dk_at dksX12_trail_5 11 rfl rfl)
theorem dX12_trail_130 : decode cX12_trail 130 = .ok (.if_icmp .ne 7, 3) := dk_160 0 7 (dk_at dksX12_trail_5 12 rfl rfl)
theorem dX12_trail_133 : decode cX12_trail 133 = .ok (.iconst 2, 1) := dk_5 (dk_at dksX12_trail_5 15 rfl rfl)
theorem dX12_trail_134 : decode cX12_trail 134 = .ok (.goto 18, 3) := dk_167 0 18 (dk_at dksX12_trail_5 16 rfl rfl)
theorem dX12_trail_137 : decode cX12_trail 137 = .ok (.iload 5, 2) := dk_21 5 (dk_at dksX12_trail_5 19 rfl rfl)
theorem dX12_trail_139 : decode cX12_trail 139 = .ok (.iload 7, 2) := dk_21 7 (dk_at dksX12_trail_5 21 rfl rfl)
theorem dX12_trail_141 : decode cX12_trail 141 = .ok (.invokestatic 228, 3) := dk_184 0 228 (dk_at dksX12_trail_6 0 rfl rfl)
theorem dX12_trail_144 : decode cX12_trail 144 = .ok (.ifCond .eq 7, 3) := dk_153 0 7 (dk_at dksX12_trail_6 3 rfl rfl)
theorem dX12_trail_147 : decode cX12_trail 147 = .ok (.iconst 3, 1) := dk_6 (dk_at dksX12_trail_6 6 rfl rfl)
theorem dX12_trail_148 : decode cX12_trail 148 = .ok (.goto 4, 3) := dk_167 0 4 (dk_at dksX12_trail_6 7 rfl rfl)
theorem dX12_trail_151 : decode cX12_trail 151 = .ok (.iconst 1, 1) := dk_4 (dk_at dksX12_trail_6 10 rfl rfl)
theorem dX12_trail_152 : decode cX12_trail 152 = .ok (.iastore, 1) := dk_79 (dk_at dksX12_trail_6 11 rfl rfl)
theorem dX12_trail_153 : decode cX12_trail 153 = .ok (.aload 8, 2) := dk_25 8 (dk_at dksX12_trail_6 12 rfl rfl)
theorem dX12_trail_155 : decode cX12_trail 155 = .ok (.areturn, 1) := dk_176 (dk_at dksX12_trail_6 14 rfl rfl)
abbrev cX12_best : ByteArray := prog_9_method_15_code
def yX12_best : MethodName := ⟨RX12, "best", "(ILjava/lang/String;I)I"⟩
def dkwX12_best_3 : List UInt8 := [21, 5, 172]
abbrev dktX12_best_3 : List UInt8 := dkwX12_best_3 ++ []
def dkwX12_best_2 : List UInt8 := [182, 0, 243, 42, 27, 44, 21, 5, 182, 0, 243, 162, 0, 7, 21, 6, 54, 5, 132, 6, 1, 167, 255, 202]
abbrev dktX12_best_2 : List UInt8 := dkwX12_best_2 ++ dktX12_best_3
def dkwX12_best_1 : List UInt8 := [162, 0, 48, 21, 4, 21, 6, 184, 0, 228, 153, 0, 32, 21, 5, 2, 159, 0, 22, 42, 27, 44, 21, 6]
abbrev dktX12_best_1 : List UInt8 := dkwX12_best_1 ++ dktX12_best_2
def dkwX12_best_0 : List UInt8 := [42, 27, 44, 29, 182, 0, 240, 54, 4, 2, 54, 5, 3, 54, 6, 21, 6, 42, 180, 0, 34, 180, 0, 38]
abbrev dktX12_best_0 : List UInt8 := dkwX12_best_0 ++ dktX12_best_1
theorem dksX12_best_0 : cX12_best.data.toList.drop 0 = dktX12_best_0 := by decide +kernel
theorem dksX12_best_1 : cX12_best.data.toList.drop 24 = dktX12_best_1 := dk_seg dksX12_best_0 24 rfl rfl
theorem dksX12_best_2 : cX12_best.data.toList.drop 48 = dktX12_best_2 := dk_seg dksX12_best_1 24 rfl rfl
theorem dksX12_best_3 : cX12_best.data.toList.drop 72 = dktX12_best_3 := dk_seg dksX12_best_2 24 rfl rfl
theorem dX12_best_0 : decode cX12_best 0 = .ok (.aload_n 0, 1) := dk_42 (dk_at dksX12_best_0 0 rfl rfl)
theorem dX12_best_1 : decode cX12_best 1 = .ok (.iload_n 1, 1) := dk_27 (dk_at dksX12_best_0 1 rfl rfl)
theorem dX12_best_2 : decode cX12_best 2 = .ok (.aload_n 2, 1) := dk_44 (dk_at dksX12_best_0 2 rfl rfl)
theorem dX12_best_3 : decode cX12_best 3 = .ok (.iload_n 3, 1) := dk_29 (dk_at dksX12_best_0 3 rfl rfl)
theorem dX12_best_4 : decode cX12_best 4 = .ok (.invokevirtual 240, 3) := dk_182 0 240 (dk_at dksX12_best_0 4 rfl rfl)
theorem dX12_best_7 : decode cX12_best 7 = .ok (.istore 4, 2) := dk_54 4 (dk_at dksX12_best_0 7 rfl rfl)
theorem dX12_best_9 : decode cX12_best 9 = .ok (.iconst (-1), 1) := dk_2 (dk_at dksX12_best_0 9 rfl rfl)
theorem dX12_best_10 : decode cX12_best 10 = .ok (.istore 5, 2) := dk_54 5 (dk_at dksX12_best_0 10 rfl rfl)
theorem dX12_best_12 : decode cX12_best 12 = .ok (.iconst 0, 1) := dk_3 (dk_at dksX12_best_0 12 rfl rfl)
theorem dX12_best_13 : decode cX12_best 13 = .ok (.istore 6, 2) := dk_54 6 (dk_at dksX12_best_0 13 rfl rfl)
theorem dX12_best_15 : decode cX12_best 15 = .ok (.iload 6, 2) := dk_21 6 (dk_at dksX12_best_0 15 rfl rfl)
theorem dX12_best_17 : decode cX12_best 17 = .ok (.aload_n 0, 1) := dk_42 (dk_at dksX12_best_0 17 rfl rfl)
theorem dX12_best_18 : decode cX12_best 18 = .ok (.getfield 34, 3) := dk_180 0 34 (dk_at dksX12_best_0 18 rfl rfl)
theorem dX12_best_21 : decode cX12_best 21 = .ok (.getfield 38, 3) := dk_180 0 38 (dk_at dksX12_best_0 21 rfl rfl)
theorem dX12_best_24 : decode cX12_best 24 = .ok (.if_icmp .ge 48, 3) := dk_162 0 48 (dk_at dksX12_best_1 0 rfl rfl)
theorem dX12_best_27 : decode cX12_best 27 = .ok (.iload 4, 2) := dk_21 4 (dk_at dksX12_best_1 3 rfl rfl)
theorem dX12_best_29 : decode cX12_best 29 = .ok (.iload 6, 2) := dk_21 6 (dk_at dksX12_best_1 5 rfl rfl)
theorem dX12_best_31 : decode cX12_best 31 = .ok (.invokestatic 228, 3) := dk_184 0 228 (dk_at dksX12_best_1 7 rfl rfl)
theorem dX12_best_34 : decode cX12_best 34 = .ok (.ifCond .eq 32, 3) := dk_153 0 32 (dk_at dksX12_best_1 10 rfl rfl)
theorem dX12_best_37 : decode cX12_best 37 = .ok (.iload 5, 2) := dk_21 5 (dk_at dksX12_best_1 13 rfl rfl)
theorem dX12_best_39 : decode cX12_best 39 = .ok (.iconst (-1), 1) := dk_2 (dk_at dksX12_best_1 15 rfl rfl)
theorem dX12_best_40 : decode cX12_best 40 = .ok (.if_icmp .eq 22, 3) := dk_159 0 22 (dk_at dksX12_best_1 16 rfl rfl)
theorem dX12_best_43 : decode cX12_best 43 = .ok (.aload_n 0, 1) := dk_42 (dk_at dksX12_best_1 19 rfl rfl)
theorem dX12_best_44 : decode cX12_best 44 = .ok (.iload_n 1, 1) := dk_27 (dk_at dksX12_best_1 20 rfl rfl)
theorem dX12_best_45 : decode cX12_best 45 = .ok (.aload_n 2, 1) := dk_44 (dk_at dksX12_best_1 21 rfl rfl)
theorem dX12_best_46 : decode cX12_best 46 = .ok (.iload 6, 2) := dk_21 6 (dk_at dksX12_best_1 22 rfl rfl)
theorem dX12_best_48 : decode cX12_best 48 = .ok (.invokevirtual 243, 3) := dk_182 0 243 (dk_at dksX12_best_2 0 rfl rfl)
theorem dX12_best_51 : decode cX12_best 51 = .ok (.aload_n 0, 1) := dk_42 (dk_at dksX12_best_2 3 rfl rfl)
theorem dX12_best_52 : decode cX12_best 52 = .ok (.iload_n 1, 1) := dk_27 (dk_at dksX12_best_2 4 rfl rfl)
theorem dX12_best_53 : decode cX12_best 53 = .ok (.aload_n 2, 1) := dk_44 (dk_at dksX12_best_2 5 rfl rfl)
theorem dX12_best_54 : decode cX12_best 54 = .ok (.iload 5, 2) := dk_21 5 (dk_at dksX12_best_2 6 rfl rfl)
theorem dX12_best_56 : decode cX12_best 56 = .ok (.invokevirtual 243, 3) := dk_182 0 243 (dk_at dksX12_best_2 8 rfl rfl)
theorem dX12_best_59 : decode cX12_best 59 = .ok (.if_icmp .ge 7, 3) := dk_162 0 7 (dk_at dksX12_best_2 11 rfl rfl)
theorem dX12_best_62 : decode cX12_best 62 = .ok (.iload 6, 2) := dk_21 6 (dk_at dksX12_best_2 14 rfl rfl)
theorem dX12_best_64 : decode cX12_best 64 = .ok (.istore 5, 2) := dk_54 5 (dk_at dksX12_best_2 16 rfl rfl)
theorem dX12_best_66 : decode cX12_best 66 = .ok (.iinc 6 1, 3) := dk_132 6 1 (dk_at dksX12_best_2 18 rfl rfl)
theorem dX12_best_69 : decode cX12_best 69 = .ok (.goto (-54), 3) := dk_167 255 202 (dk_at dksX12_best_2 21 rfl rfl)
theorem dX12_best_72 : decode cX12_best 72 = .ok (.iload 5, 2) := dk_21 5 (dk_at dksX12_best_3 0 rfl rfl)
theorem dX12_best_74 : decode cX12_best 74 = .ok (.ireturn, 1) := dk_172 (dk_at dksX12_best_3 2 rfl rfl)
abbrev cX12_worth : ByteArray := prog_9_method_14_code
def yX12_worth : MethodName := ⟨RX12, "worth", "(ILjava/lang/String;I)I"⟩
def dkwX12_worth_6 : List UInt8 := [184, 0, 235, 54, 4, 132, 6, 1, 167, 255, 166, 21, 4, 172]
abbrev dktX12_worth_6 : List UInt8 := dkwX12_worth_6 ++ []
def dkwX12_worth_5 : List UInt8 := [160, 0, 27, 44, 25, 7, 180, 0, 217, 182, 0, 223, 153, 0, 15, 21, 4, 25, 7, 180, 0, 184]
abbrev dktX12_worth_5 : List UInt8 := dkwX12_worth_5 ++ dktX12_worth_6
def dkwX12_worth_4 : List UInt8 := [160, 0, 49, 25, 7, 180, 0, 227, 29, 160, 0, 40, 25, 7, 180, 0, 217, 182, 0, 218, 21, 5]
abbrev dktX12_worth_4 : List UInt8 := dkwX12_worth_4 ++ dktX12_worth_5
def dkwX12_worth_3 : List UInt8 := [180, 0, 34, 180, 0, 212, 21, 6, 182, 0, 148, 192, 0, 185, 58, 7, 25, 7, 180, 0, 215, 27]
abbrev dktX12_worth_3 : List UInt8 := dkwX12_worth_3 ++ dktX12_worth_4
def dkwX12_worth_2 : List UInt8 := [182, 0, 208, 54, 5, 3, 54, 6, 21, 6, 42, 180, 0, 34, 180, 0, 212, 182, 0, 74, 162, 0, 81, 42]
abbrev dktX12_worth_2 : List UInt8 := dkwX12_worth_2 ++ dktX12_worth_3
def dkwX12_worth_1 : List UInt8 := [27, 182, 0, 148, 192, 0, 43, 180, 0, 231, 29, 46, 172, 18, 234, 54, 4, 42, 180, 0, 34, 27, 44]
abbrev dktX12_worth_1 : List UInt8 := dkwX12_worth_1 ++ dktX12_worth_2
def dkwX12_worth_0 : List UInt8 := [42, 180, 0, 14, 27, 182, 0, 148, 192, 0, 43, 180, 0, 231, 29, 46, 2, 159, 0, 20, 42, 180, 0, 14]
abbrev dktX12_worth_0 : List UInt8 := dkwX12_worth_0 ++ dktX12_worth_1
theorem dksX12_worth_0 : cX12_worth.data.toList.drop 0 = dktX12_worth_0 := by decide +kernel
theorem dksX12_worth_1 : cX12_worth.data.toList.drop 24 = dktX12_worth_1 := dk_seg dksX12_worth_0 24 rfl rfl
theorem dksX12_worth_2 : cX12_worth.data.toList.drop 47 = dktX12_worth_2 := dk_seg dksX12_worth_1 23 rfl rfl
theorem dksX12_worth_3 : cX12_worth.data.toList.drop 71 = dktX12_worth_3 := dk_seg dksX12_worth_2 24 rfl rfl
theorem dksX12_worth_4 : cX12_worth.data.toList.drop 93 = dktX12_worth_4 := dk_seg dksX12_worth_3 22 rfl rfl
theorem dksX12_worth_5 : cX12_worth.data.toList.drop 115 = dktX12_worth_5 := dk_seg dksX12_worth_4 22 rfl rfl
theorem dksX12_worth_6 : cX12_worth.data.toList.drop 137 = dktX12_worth_6 := dk_seg dksX12_worth_5 22 rfl rfl
theorem dX12_worth_0 : decode cX12_worth 0 = .ok (.aload_n 0, 1) := dk_42 (dk_at dksX12_worth_0 0 rfl rfl)
theorem dX12_worth_1 : decode cX12_worth 1 = .ok (.getfield 14, 3) := dk_180 0 14 (dk_at dksX12_worth_0 1 rfl rfl)
theorem dX12_worth_4 : decode cX12_worth 4 = .ok (.iload_n 1, 1) := dk_27 (dk_at dksX12_worth_0 4 rfl rfl)
theorem dX12_worth_5 : decode cX12_worth 5 = .ok (.invokevirtual 148, 3) := dk_182 0 148 (dk_at dksX12_worth_0 5 rfl rfl)
theorem dX12_worth_8 : decode cX12_worth 8 = .ok (.checkcast 43, 3) := dk_192 0 43 (dk_at dksX12_worth_0 8 rfl rfl)
theorem dX12_worth_11 : decode cX12_worth 11 = .ok (.getfield 231, 3) := dk_180 0 231 (dk_at dksX12_worth_0 11 rfl rfl)
theorem dX12_worth_14 : decode cX12_worth 14 = .ok (.iload_n 3, 1) := dk_29 (dk_at dksX12_worth_0 14 rfl rfl)
theorem dX12_worth_15 : decode cX12_worth 15 = .ok (.iaload, 1) := dk_46 (dk_at dksX12_worth_0 15 rfl rfl)
theorem dX12_worth_16 : decode cX12_worth 16 = .ok (.iconst (-1), 1) := dk_2 (dk_at dksX12_worth_0 16 rfl rfl)
theorem dX12_worth_17 : decode cX12_worth 17 = .ok (.if_icmp .eq 20, 3) := dk_159 0 20 (dk_at dksX12_worth_0 17 rfl rfl)
theorem dX12_worth_20 : decode cX12_worth 20 = .ok (.aload_n 0, 1) := dk_42 (dk_at dksX12_worth_0 20 rfl rfl)
theorem dX12_worth_21 : decode cX12_worth 21 = .ok (.getfield 14, 3) := dk_180 0 14 (dk_at dksX12_worth_0 21 rfl rfl)
theorem dX12_worth_24 : decode cX12_worth 24 = .ok (.iload_n 1, 1) := dk_27 (dk_at dksX12_worth_1 0 rfl rfl)
theorem dX12_worth_25 : decode cX12_worth 25 = .ok (.invokevirtual 148, 3) := dk_182 0 148 (dk_at dksX12_worth_1 1 rfl rfl)
theorem dX12_worth_28 : decode cX12_worth 28 = .ok (.checkcast 43, 3) := dk_192 0 43 (dk_at dksX12_worth_1 4 rfl rfl)
theorem dX12_worth_31 : decode cX12_worth 31 = .ok (.getfield 231, 3) := dk_180 0 231 (dk_at dksX12_worth_1 7 rfl rfl)
theorem dX12_worth_34 : decode cX12_worth 34 = .ok (.iload_n 3, 1) := dk_29 (dk_at dksX12_worth_1 10 rfl rfl)
theorem dX12_worth_35 : decode cX12_worth 35 = .ok (.iaload, 1) := dk_46 (dk_at dksX12_worth_1 11 rfl rfl)
theorem dX12_worth_36 : decode cX12_worth 36 = .ok (.ireturn, 1) := dk_172 (dk_at dksX12_worth_1 12 rfl rfl)
theorem dX12_worth_37 : decode cX12_worth 37 = .ok (.ldc 234, 2) := dk_18 234 (dk_at dksX12_worth_1 13 rfl rfl)
theorem dX12_worth_39 : decode cX12_worth 39 = .ok (.istore 4, 2) := dk_54 4 (dk_at dksX12_worth_1 15 rfl rfl)
theorem dX12_worth_41 : decode cX12_worth 41 = .ok (.aload_n 0, 1) := dk_42 (dk_at dksX12_worth_1 17 rfl rfl)
theorem dX12_worth_42 : decode cX12_worth 42 = .ok (.getfield 34, 3) := dk_180 0 34 (dk_at dksX12_worth_1 18 rfl rfl)
theorem dX12_worth_45 : decode cX12_worth 45 = .ok (.iload_n 1, 1) := dk_27 (dk_at dksX12_worth_1 21 rfl rfl)
theorem dX12_worth_46 : decode cX12_worth 46 = .ok (.aload_n 2, 1) := dk_44 (dk_at dksX12_worth_1 22 rfl rfl)
theorem dX12_worth_47 : decode cX12_worth 47 = .ok (.invokevirtual 208, 3) := dk_182 0 208 (dk_at dksX12_worth_2 0 rfl rfl)
theorem dX12_worth_50 : decode cX12_worth 50 = .ok (.istore 5, 2) := dk_54 5 (dk_at dksX12_worth_2 3 rfl rfl)
theorem dX12_worth_52 : decode cX12_worth 52 = .ok (.iconst 0, 1) := dk_3 (dk_at dksX12_worth_2 5 rfl rfl)
theorem dX12_worth_53 : decode cX12_worth 53 = .ok (.istore 6, 2) := dk_54 6 (dk_at dksX12_worth_2 6 rfl rfl)
theorem dX12_worth_55 : decode cX12_worth 55 = .ok (.iload 6, 2) := dk_21 6 (dk_at dksX12_worth_2 8 rfl rfl)
theorem dX12_worth_57 : decode cX12_worth 57 = .ok (.aload_n 0, 1) := dk_42 (dk_at dksX12_worth_2 10 rfl rfl)
theorem dX12_worth_58 : decode cX12_worth 58 = .ok (.getfield 34, 3) := dk_180 0 34 (dk_at dksX12_worth_2 11 rfl rfl)
theorem dX12_worth_61 : decode cX12_worth 61 = .ok (.getfield 212, 3) := dk_180 0 212 (dk_at dksX12_worth_2 14 rfl rfl)
theorem dX12_worth_64 : decode cX12_worth 64 = .ok (.invokevirtual 74, 3) := dk_182 0 74 (dk_at dksX12_worth_2 17 rfl rfl)
theorem dX12_worth_67 : decode cX12_worth 67 = .ok (.if_icmp .ge 81, 3) := dk_162 0 81 (dk_at dksX12_worth_2 20 rfl rfl)
theorem dX12_worth_70 : decode cX12_worth 70 = .ok (.aload_n 0, 1) := dk_42 (dk_at dksX12_worth_2 23 rfl rfl)
theorem dX12_worth_71 : decode cX12_worth 71 = .ok (.getfield 34, 3) := dk_180 0 34 (dk_at dksX12_worth_3 0 rfl rfl)
theorem dX12_worth_74 : decode cX12_worth 74 = .ok (.getfield 212, 3) := dk_180 0 212 (dk_at dksX12_worth_3 3 rfl rfl)
theorem dX12_worth_77 : decode cX12_worth 77 = .ok (.iload 6, 2) := dk_21 6 (dk_at dksX12_worth_3 6 rfl rfl)
theorem dX12_worth_79 : decode cX12_worth 79 = .ok (.invokevirtual 148, 3) := dk_182 0 148 (dk_at dksX12_worth_3 8 rfl rfl)
theorem dX12_worth_82 : decode cX12_worth 82 = .ok (.checkcast 185, 3) := dk_192 0 185 (dk_at dksX12_worth_3 11 rfl rfl)
theorem dX12_worth_85 : decode cX12_worth 85 = .ok (.astore 7, 2) := dk_58 7 (dk_at dksX12_worth_3 14 rfl rfl)
theorem dX12_worth_87 : decode cX12_worth 87 = .ok (.aload 7, 2) := dk_25 7 (dk_at dksX12_worth_3 16 rfl rfl)
theorem dX12_worth_89 : decode cX12_worth 89 = .ok (.getfield 215, 3) := dk_180 0 215 (dk_at dksX12_worth_3 18 rfl rfl)
theorem dX12_worth_92 : decode cX12_worth 92 = .ok (.iload_n 1, 1) := dk_27 (dk_at dksX12_worth_3 21 rfl rfl)
theorem dX12_worth_93 : decode cX12_worth 93 = .ok (.if_icmp .ne 49, 3) := dk_160 0 49 (dk_at dksX12_worth_4 0 rfl rfl)
theorem dX12_worth_96 : decode cX12_worth 96 = .ok (.aload 7, 2) := dk_25 7 (dk_at dksX12_worth_4 3 rfl rfl)
theorem dX12_worth_98 : decode cX12_worth 98 = .ok (.getfield 227, 3) := dk_180 0 227 (dk_at dksX12_worth_4 5 rfl rfl)
theorem dX12_worth_101 : decode cX12_worth 101 = .ok (.iload_n 3, 1) := dk_29 (dk_at dksX12_worth_4 8 rfl rfl)
theorem dX12_worth_102 : decode cX12_worth 102 = .ok (.if_icmp .ne 40, 3) := dk_160 0 40 (dk_at dksX12_worth_4 9 rfl rfl)
theorem dX12_worth_105 : decode cX12_worth 105 = .ok (.aload 7, 2) := dk_25 7 (dk_at dksX12_worth_4 12 rfl rfl)
theorem dX12_worth_107 : decode cX12_worth 107 = .ok (.getfield 217, 3) := dk_180 0 217 (dk_at dksX12_worth_4 14 rfl rfl)
theorem dX12_worth_110 : decode cX12_worth 110 = .ok (.invokevirtual 218, 3) := dk_182 0 218 (dk_at dksX12_worth_4 17 rfl rfl)
theorem dX12_worth_113 : decode cX12_worth 113 = .ok (.iload 5, 2) := dk_21 5 (dk_at dksX12_worth_4 20 rfl rfl)
theorem dX12_worth_115 : decode cX12_worth 115 = .ok (.if_icmp .ne 27, 3) := dk_160 0 27 (dk_at dksX12_worth_5 0 rfl rfl)
theorem dX12_worth_118 : decode cX12_worth 118 = .ok (.aload_n 2, 1) := dk_44 (dk_at dksX12_worth_5 3 rfl rfl)
theorem dX12_worth_119 : decode cX12_worth 119 = .ok (.aload 7, 2) := dk_25 7 (dk_at dksX12_worth_5 4 rfl rfl)
theorem dX12_worth_121 : decode cX12_worth 121 = .ok (.getfield 217, 3) := dk_180 0 217 (dk_at dksX12_worth_5 6 rfl rfl)
theorem dX12_worth_124 : decode cX12_worth 124 = .ok (.invokevirtual 223, 3) := dk_182 0 223 (dk_at dksX12_worth_5 9 rfl rfl)
theorem dX12_worth_127 : decode cX12_worth 127 = .ok (.ifCond .eq 15, 3) := dk_153 0 15 (dk_at dksX12_worth_5 12 rfl rfl)
theorem dX12_worth_130 : decode cX12_worth 130 = .ok (.iload 4, 2) := dk_21 4 (dk_at dksX12_worth_5 15 rfl rfl)
theorem dX12_worth_132 : decode cX12_worth 132 = .ok (.aload 7, 2) := dk_25 7 (dk_at dksX12_worth_5 17 rfl rfl)
theorem dX12_worth_134 : decode cX12_worth 134 = .ok (.getfield 184, 3) := dk_180 0 184 (dk_at dksX12_worth_5 19 rfl rfl)
theorem dX12_worth_137 : decode cX12_worth 137 = .ok (.invokestatic 235, 3) := dk_184 0 235 (dk_at dksX12_worth_6 0 rfl rfl)
theorem dX12_worth_140 : decode cX12_worth 140 = .ok (.istore 4, 2) := dk_54 4 (dk_at dksX12_worth_6 3 rfl rfl)
theorem dX12_worth_142 : decode cX12_worth 142 = .ok (.iinc 6 1, 3) := dk_132 6 1 (dk_at dksX12_worth_6 5 rfl rfl)
theorem dX12_worth_145 : decode cX12_worth 145 = .ok (.goto (-90), 3) := dk_167 255 166 (dk_at dksX12_worth_6 8 rfl rfl)
theorem dX12_worth_148 : decode cX12_worth 148 = .ok (.iload 4, 2) := dk_21 4 (dk_at dksX12_worth_6 11 rfl rfl)
theorem dX12_worth_150 : decode cX12_worth 150 = .ok (.ireturn, 1) := dk_172 (dk_at dksX12_worth_6 13 rfl rfl)
abbrev cX12_asks : ByteArray := prog_9_method_11_code
def yX12_asks : MethodName := ⟨RX12, "asks", "(IILjava/lang/String;II)V"⟩
def dkwX12_asks_1 : List UInt8 := [187, 0, 123, 89, 25, 6, 183, 0, 141, 182, 0, 144, 177]
abbrev dktX12_asks_1 : List UInt8 := dkwX12_asks_1 ++ []
def dkwX12_asks_0 : List UInt8 := [42, 27, 28, 45, 21, 4, 21, 5, 182, 0, 133, 167, 0, 25, 58, 6, 42, 27, 28, 21, 5, 45, 21, 4]
abbrev dktX12_asks_0 : List UInt8 := dkwX12_asks_0 ++ dktX12_asks_1
theorem dksX12_asks_0 : cX12_asks.data.toList.drop 0 = dktX12_asks_0 := by decide +kernel
theorem dksX12_asks_1 : cX12_asks.data.toList.drop 24 = dktX12_asks_1 := dk_seg dksX12_asks_0 24 rfl rfl
theorem dX12_asks_0 : decode cX12_asks 0 = .ok (.aload_n 0, 1) := dk_42 (dk_at dksX12_asks_0 0 rfl rfl)
theorem dX12_asks_1 : decode cX12_asks 1 = .ok (.iload_n 1, 1) := dk_27 (dk_at dksX12_asks_0 1 rfl rfl)
theorem dX12_asks_2 : decode cX12_asks 2 = .ok (.iload_n 2, 1) := dk_28 (dk_at dksX12_asks_0 2 rfl rfl)
theorem dX12_asks_3 : decode cX12_asks 3 = .ok (.aload_n 3, 1) := dk_45 (dk_at dksX12_asks_0 3 rfl rfl)
theorem dX12_asks_4 : decode cX12_asks 4 = .ok (.iload 4, 2) := dk_21 4 (dk_at dksX12_asks_0 4 rfl rfl)
theorem dX12_asks_6 : decode cX12_asks 6 = .ok (.iload 5, 2) := dk_21 5 (dk_at dksX12_asks_0 6 rfl rfl)
theorem dX12_asks_8 : decode cX12_asks 8 = .ok (.invokevirtual 133, 3) := dk_182 0 133 (dk_at dksX12_asks_0 8 rfl rfl)
theorem dX12_asks_11 : decode cX12_asks 11 = .ok (.goto 25, 3) := dk_167 0 25 (dk_at dksX12_asks_0 11 rfl rfl)
theorem dX12_asks_14 : decode cX12_asks 14 = .ok (.astore 6, 2) := dk_58 6 (dk_at dksX12_asks_0 14 rfl rfl)
theorem dX12_asks_16 : decode cX12_asks 16 = .ok (.aload_n 0, 1) := dk_42 (dk_at dksX12_asks_0 16 rfl rfl)
theorem dX12_asks_17 : decode cX12_asks 17 = .ok (.iload_n 1, 1) := dk_27 (dk_at dksX12_asks_0 17 rfl rfl)
theorem dX12_asks_18 : decode cX12_asks 18 = .ok (.iload_n 2, 1) := dk_28 (dk_at dksX12_asks_0 18 rfl rfl)
theorem dX12_asks_19 : decode cX12_asks 19 = .ok (.iload 5, 2) := dk_21 5 (dk_at dksX12_asks_0 19 rfl rfl)
theorem dX12_asks_21 : decode cX12_asks 21 = .ok (.aload_n 3, 1) := dk_45 (dk_at dksX12_asks_0 21 rfl rfl)
theorem dX12_asks_22 : decode cX12_asks 22 = .ok (.iload 4, 2) := dk_21 4 (dk_at dksX12_asks_0 22 rfl rfl)
theorem dX12_asks_24 : decode cX12_asks 24 = .ok (.new 123, 3) := dk_187 0 123 (dk_at dksX12_asks_1 0 rfl rfl)
theorem dX12_asks_27 : decode cX12_asks 27 = .ok (.dup, 1) := dk_89 (dk_at dksX12_asks_1 3 rfl rfl)
theorem dX12_asks_28 : decode cX12_asks 28 = .ok (.aload 6, 2) := dk_25 6 (dk_at dksX12_asks_1 4 rfl rfl)
theorem dX12_asks_30 : decode cX12_asks 30 = .ok (.invokespecial 141, 3) := dk_183 0 141 (dk_at dksX12_asks_1 6 rfl rfl)
theorem dX12_asks_33 : decode cX12_asks 33 = .ok (.invokevirtual 144, 3) := dk_182 0 144 (dk_at dksX12_asks_1 9 rfl rfl)
theorem dX12_asks_36 : decode cX12_asks 36 = .ok (.return_, 1) := dk_177 (dk_at dksX12_asks_1 12 rfl rfl)
abbrev cX12_takes : ByteArray := prog_9_method_12_code
def yX12_takes : MethodName := ⟨RX12, "takes", "(IILjava/lang/String;II)V"⟩
def dkwX12_takes_10 : List UInt8 := [182, 0, 195, 25, 6, 180, 0, 71, 25, 10, 182, 0, 46, 87, 42, 27, 25, 10, 182, 0, 204, 177]
abbrev dktX12_takes_10 : List UInt8 := dkwX12_takes_10 ++ []
def dkwX12_takes_9 : List UInt8 := [180, 0, 78, 42, 180, 0, 34, 180, 0, 198, 96, 21, 5, 183, 0, 201, 58, 10, 25, 10, 28, 21, 5]
abbrev dktX12_takes_9 : List UInt8 := dkwX12_takes_9 ++ dktX12_takes_10
def dkwX12_takes_8 : List UInt8 := [96, 181, 0, 192, 25, 7, 28, 21, 5, 182, 0, 195, 167, 0, 55, 187, 0, 161, 89, 45, 21, 4, 42]
abbrev dktX12_takes_8 : List UInt8 := dkwX12_takes_8 ++ dktX12_takes_9
def dkwX12_takes_7 : List UInt8 := [183, 0, 189, 16, 10, 27, 104, 182, 0, 180, 167, 0, 81, 25, 7, 198, 0, 24, 42, 89, 180, 0, 192, 4]
abbrev dktX12_takes_7 : List UInt8 := dkwX12_takes_7 ++ dktX12_takes_8
def dkwX12_takes_6 : List UInt8 := [198, 0, 37, 42, 27, 28, 21, 5, 187, 0, 110, 89, 45, 42, 180, 0, 78, 25, 9, 180, 0, 184, 96, 27]
abbrev dktX12_takes_6 : List UInt8 := dkwX12_takes_6 ++ dktX12_takes_7
def dkwX12_takes_5 : List UInt8 := [181, 0, 177, 42, 27, 28, 21, 5, 25, 8, 16, 10, 27, 104, 4, 96, 182, 0, 180, 167, 0, 120, 25, 9]
abbrev dktX12_takes_5 : List UInt8 := dkwX12_takes_5 ++ dktX12_takes_6
def dkwX12_takes_4 : List UInt8 := [180, 0, 34, 27, 45, 182, 0, 173, 58, 9, 25, 8, 198, 0, 32, 42, 89, 180, 0, 177, 4, 96]
abbrev dktX12_takes_4 : List UInt8 := dkwX12_takes_4 ++ dktX12_takes_5
def dkwX12_takes_3 : List UInt8 := [187, 0, 139, 89, 27, 183, 0, 168, 191, 25, 6, 45, 21, 4, 42, 180, 0, 78, 182, 0, 169, 58, 8, 42]
abbrev dktX12_takes_3 : List UInt8 := dkwX12_takes_3 ++ dktX12_takes_4
def dkwX12_takes_2 : List UInt8 := [180, 0, 160, 21, 5, 123, 10, 127, 10, 148, 154, 0, 22, 42, 89, 180, 0, 165, 4, 96, 181, 0, 165]
abbrev dktX12_takes_2 : List UInt8 := dkwX12_takes_2 ++ dktX12_takes_3
def dkwX12_takes_1 : List UInt8 := [25, 6, 180, 0, 156, 21, 5, 123, 10, 127, 10, 148, 153, 0, 23, 25, 7, 198, 0, 37, 25, 7]
abbrev dktX12_takes_1 : List UInt8 := dkwX12_takes_1 ++ dktX12_takes_2
def dkwX12_takes_0 : List UInt8 := [42, 180, 0, 14, 27, 182, 0, 148, 192, 0, 43, 58, 6, 25, 6, 45, 21, 4, 182, 0, 152, 58, 7]
abbrev dktX12_takes_0 : List UInt8 := dkwX12_takes_0 ++ dktX12_takes_1
theorem dksX12_takes_0 : cX12_takes.data.toList.drop 0 = dktX12_takes_0 := by decide +kernel
theorem dksX12_takes_1 : cX12_takes.data.toList.drop 23 = dktX12_takes_1 := dk_seg dksX12_takes_0 23 rfl rfl
theorem dksX12_takes_2 : cX12_takes.data.toList.drop 45 = dktX12_takes_2 := dk_seg dksX12_takes_1 22 rfl rfl
theorem dksX12_takes_3 : cX12_takes.data.toList.drop 68 = dktX12_takes_3 := dk_seg dksX12_takes_2 23 rfl rfl
theorem dksX12_takes_4 : cX12_takes.data.toList.drop 92 = dktX12_takes_4 := dk_seg dksX12_takes_3 24 rfl rfl
theorem dksX12_takes_5 : cX12_takes.data.toList.drop 114 = dktX12_takes_5 := dk_seg dksX12_takes_4 22 rfl rfl
theorem dksX12_takes_6 : cX12_takes.data.toList.drop 138 = dktX12_takes_6 := dk_seg dksX12_takes_5 24 rfl rfl
theorem dksX12_takes_7 : cX12_takes.data.toList.drop 162 = dktX12_takes_7 := dk_seg dksX12_takes_6 24 rfl rfl
theorem dksX12_takes_8 : cX12_takes.data.toList.drop 186 = dktX12_takes_8 := dk_seg dksX12_takes_7 24 rfl rfl
theorem dksX12_takes_9 : cX12_takes.data.toList.drop 209 = dktX12_takes_9 := dk_seg dksX12_takes_8 23 rfl rfl
theorem dksX12_takes_10 : cX12_takes.data.toList.drop 232 = dktX12_takes_10 := dk_seg dksX12_takes_9 23 rfl rfl
theorem dX12_takes_0 : decode cX12_takes 0 = .ok (.aload_n 0, 1) := dk_42 (dk_at dksX12_takes_0 0 rfl rfl)
theorem dX12_takes_1 : decode cX12_takes 1 = .ok (.getfield 14, 3) := dk_180 0 14 (dk_at dksX12_takes_0 1 rfl rfl)
theorem dX12_takes_4 : decode cX12_takes 4 = .ok (.iload_n 1, 1) := dk_27 (dk_at dksX12_takes_0 4 rfl rfl)
theorem dX12_takes_5 : decode cX12_takes 5 = .ok (.invokevirtual 148, 3) := dk_182 0 148 (dk_at dksX12_takes_0 5 rfl rfl)
theorem dX12_takes_8 : decode cX12_takes 8 = .ok (.checkcast 43, 3) := dk_192 0 43 (dk_at dksX12_takes_0 8 rfl rfl)
theorem dX12_takes_11 : decode cX12_takes 11 = .ok (.astore 6, 2) := dk_58 6 (dk_at dksX12_takes_0 11 rfl rfl)
theorem dX12_takes_13 : decode cX12_takes 13 = .ok (.aload 6, 2) := dk_25 6 (dk_at dksX12_takes_0 13 rfl rfl)
theorem dX12_takes_15 : decode cX12_takes 15 = .ok (.aload_n 3, 1) := dk_45 (dk_at dksX12_takes_0 15 rfl rfl)
theorem dX12_takes_16 : decode cX12_takes 16 = .ok (.iload 4, 2) := dk_21 4 (dk_at dksX12_takes_0 16 rfl rfl)
theorem dX12_takes_18 : decode cX12_takes 18 = .ok (.invokevirtual 152, 3) := dk_182 0 152 (dk_at dksX12_takes_0 18 rfl rfl)
theorem dX12_takes_21 : decode cX12_takes 21 = .ok (.astore 7, 2) := dk_58 7 (dk_at dksX12_takes_0 21 rfl rfl)
theorem dX12_takes_23 : decode cX12_takes 23 = .ok (.aload 6, 2) := dk_25 6 (dk_at dksX12_takes_1 0 rfl rfl)
theorem dX12_takes_25 : decode cX12_takes 25 = .ok (.getfield 156, 3) := dk_180 0 156 (dk_at dksX12_takes_1 2 rfl rfl)
theorem dX12_takes_28 : decode cX12_takes 28 = .ok (.iload 5, 2) := dk_21 5 (dk_at dksX12_takes_1 5 rfl rfl)
theorem dX12_takes_30 : decode cX12_takes 30 = .ok (.lshr, 1) := dk_123 (dk_at dksX12_takes_1 7 rfl rfl)
theorem dX12_takes_31 : decode cX12_takes 31 = .ok (.lconst 1, 1) := dk_10 (dk_at dksX12_takes_1 8 rfl rfl)
theorem dX12_takes_32 : decode cX12_takes 32 = .ok (.land, 1) := dk_127 (dk_at dksX12_takes_1 9 rfl rfl)
theorem dX12_takes_33 : decode cX12_takes 33 = .ok (.lconst 1, 1) := dk_10 (dk_at dksX12_takes_1 10 rfl rfl)
theorem dX12_takes_34 : decode cX12_takes 34 = .ok (.lcmp, 1) := dk_148 (dk_at dksX12_takes_1 11 rfl rfl)
theorem dX12_takes_35 : decode cX12_takes 35 = .ok (.ifCond .eq 23, 3) := dk_153 0 23 (dk_at dksX12_takes_1 12 rfl rfl)
theorem dX12_takes_38 : decode cX12_takes 38 = .ok (.aload 7, 2) := dk_25 7 (dk_at dksX12_takes_1 15 rfl rfl)
theorem dX12_takes_40 : decode cX12_takes 40 = .ok (.ifnull 37, 3) := dk_198 0 37 (dk_at dksX12_takes_1 17 rfl rfl)
theorem dX12_takes_43 : decode cX12_takes 43 = .ok (.aload 7, 2) := dk_25 7 (dk_at dksX12_takes_1 20 rfl rfl)
theorem dX12_takes_45 : decode cX12_takes 45 = .ok (.getfield 160, 3) := dk_180 0 160 (dk_at dksX12_takes_2 0 rfl rfl)
theorem dX12_takes_48 : decode cX12_takes 48 = .ok (.iload 5, 2) := dk_21 5 (dk_at dksX12_takes_2 3 rfl rfl)
theorem dX12_takes_50 : decode cX12_takes 50 = .ok (.lshr, 1) := dk_123 (dk_at dksX12_takes_2 5 rfl rfl)
theorem dX12_takes_51 : decode cX12_takes 51 = .ok (.lconst 1, 1) := dk_10 (dk_at dksX12_takes_2 6 rfl rfl)
theorem dX12_takes_52 : decode cX12_takes 52 = .ok (.land, 1) := dk_127 (dk_at dksX12_takes_2 7 rfl rfl)
theorem dX12_takes_53 : decode cX12_takes 53 = .ok (.lconst 1, 1) := dk_10 (dk_at dksX12_takes_2 8 rfl rfl)
theorem dX12_takes_54 : decode cX12_takes 54 = .ok (.lcmp, 1) := dk_148 (dk_at dksX12_takes_2 9 rfl rfl)
theorem dX12_takes_55 : decode cX12_takes 55 = .ok (.ifCond .ne 22, 3) := dk_154 0 22 (dk_at dksX12_takes_2 10 rfl rfl)
theorem dX12_takes_58 : decode cX12_takes 58 = .ok (.aload_n 0, 1) := dk_42 (dk_at dksX12_takes_2 13 rfl rfl)
theorem dX12_takes_59 : decode cX12_takes 59 = .ok (.dup, 1) := dk_89 (dk_at dksX12_takes_2 14 rfl rfl)
theorem dX12_takes_60 : decode cX12_takes 60 = .ok (.getfield 165, 3) := dk_180 0 165 (dk_at dksX12_takes_2 15 rfl rfl)
theorem dX12_takes_63 : decode cX12_takes 63 = .ok (.iconst 1, 1) := dk_4 (dk_at dksX12_takes_2 18 rfl rfl)
theorem dX12_takes_64 : decode cX12_takes 64 = .ok (.iadd, 1) := dk_96 (dk_at dksX12_takes_2 19 rfl rfl)
theorem dX12_takes_65 : decode cX12_takes 65 = .ok (.putfield 165, 3) := dk_181 0 165 (dk_at dksX12_takes_2 20 rfl rfl)
theorem dX12_takes_68 : decode cX12_takes 68 = .ok (.new 139, 3) := dk_187 0 139 (dk_at dksX12_takes_3 0 rfl rfl)
theorem dX12_takes_71 : decode cX12_takes 71 = .ok (.dup, 1) := dk_89 (dk_at dksX12_takes_3 3 rfl rfl)
theorem dX12_takes_72 : decode cX12_takes 72 = .ok (.iload_n 1, 1) := dk_27 (dk_at dksX12_takes_3 4 rfl rfl)
theorem dX12_takes_73 : decode cX12_takes 73 = .ok (.invokespecial 168, 3) := dk_183 0 168 (dk_at dksX12_takes_3 5 rfl rfl)
theorem dX12_takes_76 : decode cX12_takes 76 = .ok (.athrow, 1) := dk_191 (dk_at dksX12_takes_3 8 rfl rfl)
theorem dX12_takes_77 : decode cX12_takes 77 = .ok (.aload 6, 2) := dk_25 6 (dk_at dksX12_takes_3 9 rfl rfl)
theorem dX12_takes_79 : decode cX12_takes 79 = .ok (.aload_n 3, 1) := dk_45 (dk_at dksX12_takes_3 11 rfl rfl)
theorem dX12_takes_80 : decode cX12_takes 80 = .ok (.iload 4, 2) := dk_21 4 (dk_at dksX12_takes_3 12 rfl rfl)
theorem dX12_takes_82 : decode cX12_takes 82 = .ok (.aload_n 0, 1) := dk_42 (dk_at dksX12_takes_3 14 rfl rfl)
theorem dX12_takes_83 : decode cX12_takes 83 = .ok (.getfield 78, 3) := dk_180 0 78 (dk_at dksX12_takes_3 15 rfl rfl)
theorem dX12_takes_86 : decode cX12_takes 86 = .ok (.invokevirtual 169, 3) := dk_182 0 169 (dk_at dksX12_takes_3 18 rfl rfl)
theorem dX12_takes_89 : decode cX12_takes 89 = .ok (.astore 8, 2) := dk_58 8 (dk_at dksX12_takes_3 21 rfl rfl)
theorem dX12_takes_91 : decode cX12_takes 91 = .ok (.aload_n 0, 1) := dk_42 (dk_at dksX12_takes_3 23 rfl rfl)
theorem dX12_takes_92 : decode cX12_takes 92 = .ok (.getfield 34, 3) := dk_180 0 34 (dk_at dksX12_takes_4 0 rfl rfl)
theorem dX12_takes_95 : decode cX12_takes 95 = .ok (.iload_n 1, 1) := dk_27 (dk_at dksX12_takes_4 3 rfl rfl)
theorem dX12_takes_96 : decode cX12_takes 96 = .ok (.aload_n 3, 1) := dk_45 (dk_at dksX12_takes_4 4 rfl rfl)
theorem dX12_takes_97 : decode cX12_takes 97 = .ok (.invokevirtual 173, 3) := dk_182 0 173 (dk_at dksX12_takes_4 5 rfl rfl)
theorem dX12_takes_100 : decode cX12_takes 100 = .ok (.astore 9, 2) := dk_58 9 (dk_at dksX12_takes_4 8 rfl rfl)
theorem dX12_takes_102 : decode cX12_takes 102 = .ok (.aload 8, 2) := dk_25 8 (dk_at dksX12_takes_4 10 rfl rfl)
theorem dX12_takes_104 : decode cX12_takes 104 = .ok (.ifnull 32, 3) := dk_198 0 32 (dk_at dksX12_takes_4 12 rfl rfl)
theorem dX12_takes_107 : decode cX12_takes 107 = .ok (.aload_n 0, 1) := dk_42 (dk_at dksX12_takes_4 15 rfl rfl)
theorem dX12_takes_108 : decode cX12_takes 108 = .ok (.dup, 1) := dk_89 (dk_at dksX12_takes_4 16 rfl rfl)
theorem dX12_takes_109 : decode cX12_takes 109 = .ok (.getfield 177, 3) := dk_180 0 177 (dk_at dksX12_takes_4 17 rfl rfl)
theorem dX12_takes_112 : decode cX12_takes 112 = .ok (.iconst 1, 1) := dk_4 (dk_at dksX12_takes_4 20 rfl rfl)
theorem dX12_takes_113 : decode cX12_takes 113 = .ok (.iadd, 1) := dk_96 (dk_at dksX12_takes_4 21 rfl rfl)
theorem dX12_takes_114 : decode cX12_takes 114 = .ok (.putfield 177, 3) := dk_181 0 177 (dk_at dksX12_takes_5 0 rfl rfl)
theorem dX12_takes_117 : decode cX12_takes 117 = .ok (.aload_n 0, 1) := dk_42 (dk_at dksX12_takes_5 3 rfl rfl)
theorem dX12_takes_118 : decode cX12_takes 118 = .ok (.iload_n 1, 1) := dk_27 (dk_at dksX12_takes_5 4 rfl rfl)
theorem dX12_takes_119 : decode cX12_takes 119 = .ok (.iload_n 2, 1) := dk_28 (dk_at dksX12_takes_5 5 rfl rfl)
theorem dX12_takes_120 : decode cX12_takes 120 = .ok (.iload 5, 2) := dk_21 5 (dk_at dksX12_takes_5 6 rfl rfl)
theorem dX12_takes_122 : decode cX12_takes 122 = .ok (.aload 8, 2) := dk_25 8 (dk_at dksX12_takes_5 8 rfl rfl)
theorem dX12_takes_124 : decode cX12_takes 124 = .ok (.bipush 10, 2) := dk_16 10 (dk_at dksX12_takes_5 10 rfl rfl)
theorem dX12_takes_126 : decode cX12_takes 126 = .ok (.iload_n 1, 1) := dk_27 (dk_at dksX12_takes_5 12 rfl rfl)
theorem dX12_takes_127 : decode cX12_takes 127 = .ok (.imul, 1) := dk_104 (dk_at dksX12_takes_5 13 rfl rfl)
theorem dX12_takes_128 : decode cX12_takes 128 = .ok (.iconst 1, 1) := dk_4 (dk_at dksX12_takes_5 14 rfl rfl)
theorem dX12_takes_129 : decode cX12_takes 129 = .ok (.iadd, 1) := dk_96 (dk_at dksX12_takes_5 15 rfl rfl)
theorem dX12_takes_130 : decode cX12_takes 130 = .ok (.invokevirtual 180, 3) := dk_182 0 180 (dk_at dksX12_takes_5 16 rfl rfl)
theorem dX12_takes_133 : decode cX12_takes 133 = .ok (.goto 120, 3) := dk_167 0 120 (dk_at dksX12_takes_5 19 rfl rfl)
theorem dX12_takes_136 : decode cX12_takes 136 = .ok (.aload 9, 2) := dk_25 9 (dk_at dksX12_takes_5 22 rfl rfl)
theorem dX12_takes_138 : decode cX12_takes 138 = .ok (.ifnull 37, 3) := dk_198 0 37 (dk_at dksX12_takes_6 0 rfl rfl)
theorem dX12_takes_141 : decode cX12_takes 141 = .ok (.aload_n 0, 1) := dk_42 (dk_at dksX12_takes_6 3 rfl rfl)
theorem dX12_takes_142 : decode cX12_takes 142 = .ok (.iload_n 1, 1) := dk_27 (dk_at dksX12_takes_6 4 rfl rfl)
theorem dX12_takes_143 : decode cX12_takes 143 = .ok (.iload_n 2, 1) := dk_28 (dk_at dksX12_takes_6 5 rfl rfl)
theorem dX12_takes_144 : decode cX12_takes 144 = .ok (.iload 5, 2) := dk_21 5 (dk_at dksX12_takes_6 6 rfl rfl)
theorem dX12_takes_146 : decode cX12_takes 146 = .ok (.new 110, 3) := dk_187 0 110 (dk_at dksX12_takes_6 8 rfl rfl)
theorem dX12_takes_149 : decode cX12_takes 149 = .ok (.dup, 1) := dk_89 (dk_at dksX12_takes_6 11 rfl rfl)
theorem dX12_takes_150 : decode cX12_takes 150 = .ok (.aload_n 3, 1) := dk_45 (dk_at dksX12_takes_6 12 rfl rfl)
theorem dX12_takes_151 : decode cX12_takes 151 = .ok (.aload_n 0, 1) := dk_42 (dk_at dksX12_takes_6 13 rfl rfl)
theorem dX12_takes_152 : decode cX12_takes 152 = .ok (.getfield 78, 3) := dk_180 0 78 (dk_at dksX12_takes_6 14 rfl rfl)
theorem dX12_takes_155 : decode cX12_takes 155 = .ok (.aload 9, 2) := dk_25 9 (dk_at dksX12_takes_6 17 rfl rfl)
theorem dX12_takes_157 : decode cX12_takes 157 = .ok (.getfield 184, 3) := dk_180 0 184 (dk_at dksX12_takes_6 19 rfl rfl)
theorem dX12_takes_160 : decode cX12_takes 160 = .ok (.iadd, 1) := dk_96 (dk_at dksX12_takes_6 22 rfl rfl)
theorem dX12_takes_161 : decode cX12_takes 161 = .ok (.iload_n 1, 1) := dk_27 (dk_at dksX12_takes_6 23 rfl rfl)
theorem dX12_takes_162 : decode cX12_takes 162 = .ok (.invokespecial 189, 3) := dk_183 0 189 (dk_at dksX12_takes_7 0 rfl rfl)
theorem dX12_takes_165 : decode cX12_takes 165 = .ok (.bipush 10, 2) := dk_16 10 (dk_at dksX12_takes_7 3 rfl rfl)
theorem dX12_takes_167 : decode cX12_takes 167 = .ok (.iload_n 1, 1) := dk_27 (dk_at dksX12_takes_7 5 rfl rfl)
theorem dX12_takes_168 : decode cX12_takes 168 = .ok (.imul, 1) := dk_104 (dk_at dksX12_takes_7 6 rfl rfl)
theorem dX12_takes_169 : decode cX12_takes 169 = .ok (.invokevirtual 180, 3) := dk_182 0 180 (dk_at dksX12_takes_7 7 rfl rfl)
theorem dX12_takes_172 : decode cX12_takes 172 = .ok (.goto 81, 3) := dk_167 0 81 (dk_at dksX12_takes_7 10 rfl rfl)
theorem dX12_takes_175 : decode cX12_takes 175 = .ok (.aload 7, 2) := dk_25 7 (dk_at dksX12_takes_7 13 rfl rfl)
theorem dX12_takes_177 : decode cX12_takes 177 = .ok (.ifnull 24, 3) := dk_198 0 24 (dk_at dksX12_takes_7 15 rfl rfl)
theorem dX12_takes_180 : decode cX12_takes 180 = .ok (.aload_n 0, 1) := dk_42 (dk_at dksX12_takes_7 18 rfl rfl)
theorem dX12_takes_181 : decode cX12_takes 181 = .ok (.dup, 1) := dk_89 (dk_at dksX12_takes_7 19 rfl rfl)
theorem dX12_takes_182 : decode cX12_takes 182 = .ok (.getfield 192, 3) := dk_180 0 192 (dk_at dksX12_takes_7 20 rfl rfl)
theorem dX12_takes_185 : decode cX12_takes 185 = .ok (.iconst 1, 1) := dk_4 (dk_at dksX12_takes_7 23 rfl rfl)
theorem dX12_takes_186 : decode cX12_takes 186 = .ok (.iadd, 1) := dk_96 (dk_at dksX12_takes_8 0 rfl rfl)
theorem dX12_takes_187 : decode cX12_takes 187 = .ok (.putfield 192, 3) := dk_181 0 192 (dk_at dksX12_takes_8 1 rfl rfl)
theorem dX12_takes_190 : decode cX12_takes 190 = .ok (.aload 7, 2) := dk_25 7 (dk_at dksX12_takes_8 4 rfl rfl)
theorem dX12_takes_192 : decode cX12_takes 192 = .ok (.iload_n 2, 1) := dk_28 (dk_at dksX12_takes_8 6 rfl rfl)
theorem dX12_takes_193 : decode cX12_takes 193 = .ok (.iload 5, 2) := dk_21 5 (dk_at dksX12_takes_8 7 rfl rfl)
theorem dX12_takes_195 : decode cX12_takes 195 = .ok (.invokevirtual 195, 3) := dk_182 0 195 (dk_at dksX12_takes_8 9 rfl rfl)
theorem dX12_takes_198 : decode cX12_takes 198 = .ok (.goto 55, 3) := dk_167 0 55 (dk_at dksX12_takes_8 12 rfl rfl)
theorem dX12_takes_201 : decode cX12_takes 201 = .ok (.new 161, 3) := dk_187 0 161 (dk_at dksX12_takes_8 15 rfl rfl)
theorem dX12_takes_204 : decode cX12_takes 204 = .ok (.dup, 1) := dk_89 (dk_at dksX12_takes_8 18 rfl rfl)
theorem dX12_takes_205 : decode cX12_takes 205 = .ok (.aload_n 3, 1) := dk_45 (dk_at dksX12_takes_8 19 rfl rfl)
theorem dX12_takes_206 : decode cX12_takes 206 = .ok (.iload 4, 2) := dk_21 4 (dk_at dksX12_takes_8 20 rfl rfl)
theorem dX12_takes_208 : decode cX12_takes 208 = .ok (.aload_n 0, 1) := dk_42 (dk_at dksX12_takes_8 22 rfl rfl)
theorem dX12_takes_209 : decode cX12_takes 209 = .ok (.getfield 78, 3) := dk_180 0 78 (dk_at dksX12_takes_9 0 rfl rfl)
theorem dX12_takes_212 : decode cX12_takes 212 = .ok (.aload_n 0, 1) := dk_42 (dk_at dksX12_takes_9 3 rfl rfl)
theorem dX12_takes_213 : decode cX12_takes 213 = .ok (.getfield 34, 3) := dk_180 0 34 (dk_at dksX12_takes_9 4 rfl rfl)
theorem dX12_takes_216 : decode cX12_takes 216 = .ok (.getfield 198, 3) := dk_180 0 198 (dk_at dksX12_takes_9 7 rfl rfl)
theorem dX12_takes_219 : decode cX12_takes 219 = .ok (.iadd, 1) := dk_96 (dk_at dksX12_takes_9 10 rfl rfl)
theorem dX12_takes_220 : decode cX12_takes 220 = .ok (.iload 5, 2) := dk_21 5 (dk_at dksX12_takes_9 11 rfl rfl)
theorem dX12_takes_222 : decode cX12_takes 222 = .ok (.invokespecial 201, 3) := dk_183 0 201 (dk_at dksX12_takes_9 13 rfl rfl)
theorem dX12_takes_225 : decode cX12_takes 225 = .ok (.astore 10, 2) := dk_58 10 (dk_at dksX12_takes_9 16 rfl rfl)
theorem dX12_takes_227 : decode cX12_takes 227 = .ok (.aload 10, 2) := dk_25 10 (dk_at dksX12_takes_9 18 rfl rfl)
theorem dX12_takes_229 : decode cX12_takes 229 = .ok (.iload_n 2, 1) := dk_28 (dk_at dksX12_takes_9 20 rfl rfl)
theorem dX12_takes_230 : decode cX12_takes 230 = .ok (.iload 5, 2) := dk_21 5 (dk_at dksX12_takes_9 21 rfl rfl)
theorem dX12_takes_232 : decode cX12_takes 232 = .ok (.invokevirtual 195, 3) := dk_182 0 195 (dk_at dksX12_takes_10 0 rfl rfl)
theorem dX12_takes_235 : decode cX12_takes 235 = .ok (.aload 6, 2) := dk_25 6 (dk_at dksX12_takes_10 3 rfl rfl)
theorem dX12_takes_237 : decode cX12_takes 237 = .ok (.getfield 71, 3) := dk_180 0 71 (dk_at dksX12_takes_10 5 rfl rfl)
theorem dX12_takes_240 : decode cX12_takes 240 = .ok (.aload 10, 2) := dk_25 10 (dk_at dksX12_takes_10 8 rfl rfl)
theorem dX12_takes_242 : decode cX12_takes 242 = .ok (.invokevirtual 46, 3) := dk_182 0 46 (dk_at dksX12_takes_10 10 rfl rfl)
theorem dX12_takes_245 : decode cX12_takes 245 = .ok (.pop, 1) := dk_87 (dk_at dksX12_takes_10 13 rfl rfl)
theorem dX12_takes_246 : decode cX12_takes 246 = .ok (.aload_n 0, 1) := dk_42 (dk_at dksX12_takes_10 14 rfl rfl)
theorem dX12_takes_247 : decode cX12_takes 247 = .ok (.iload_n 1, 1) := dk_27 (dk_at dksX12_takes_10 15 rfl rfl)
theorem dX12_takes_248 : decode cX12_takes 248 = .ok (.aload 10, 2) := dk_25 10 (dk_at dksX12_takes_10 16 rfl rfl)
theorem dX12_takes_250 : decode cX12_takes 250 = .ok (.invokevirtual 204, 3) := dk_182 0 204 (dk_at dksX12_takes_10 18 rfl rfl)
theorem dX12_takes_253 : decode cX12_takes 253 = .ok (.return_, 1) := dk_177 (dk_at dksX12_takes_10 21 rfl rfl)
abbrev cX12_gives : ByteArray := prog_9_method_9_code
def yX12_gives : MethodName := ⟨RX12, "gives", "(IIILAskedNames$Data;I)V"⟩
def dkwX12_gives_2 : List UInt8 := [182, 0, 106, 25, 4, 180, 0, 109, 3, 3, 25, 4, 21, 5, 1, 183, 0, 115, 182, 0, 118, 177]
abbrev dktX12_gives_2 : List UInt8 := dkwX12_gives_2 ++ []
def dkwX12_gives_1 : List UInt8 := [21, 5, 16, 10, 112, 79, 182, 0, 102, 167, 0, 34, 42, 187, 0, 82, 89, 27, 28, 42, 27, 28]
abbrev dktX12_gives_1 : List UInt8 := dkwX12_gives_1 ++ dktX12_gives_2
def dkwX12_gives_0 : List UInt8 := [28, 2, 160, 0, 34, 42, 29, 6, 188, 10, 89, 3, 4, 79, 89, 4, 21, 5, 16, 10, 108, 79, 89, 5]
abbrev dktX12_gives_0 : List UInt8 := dkwX12_gives_0 ++ dktX12_gives_1
theorem dksX12_gives_0 : cX12_gives.data.toList.drop 0 = dktX12_gives_0 := by decide +kernel
theorem dksX12_gives_1 : cX12_gives.data.toList.drop 24 = dktX12_gives_1 := dk_seg dksX12_gives_0 24 rfl rfl
theorem dksX12_gives_2 : cX12_gives.data.toList.drop 46 = dktX12_gives_2 := dk_seg dksX12_gives_1 22 rfl rfl
theorem dX12_gives_0 : decode cX12_gives 0 = .ok (.iload_n 2, 1) := dk_28 (dk_at dksX12_gives_0 0 rfl rfl)
theorem dX12_gives_1 : decode cX12_gives 1 = .ok (.iconst (-1), 1) := dk_2 (dk_at dksX12_gives_0 1 rfl rfl)
theorem dX12_gives_2 : decode cX12_gives 2 = .ok (.if_icmp .ne 34, 3) := dk_160 0 34 (dk_at dksX12_gives_0 2 rfl rfl)
theorem dX12_gives_5 : decode cX12_gives 5 = .ok (.aload_n 0, 1) := dk_42 (dk_at dksX12_gives_0 5 rfl rfl)
theorem dX12_gives_6 : decode cX12_gives 6 = .ok (.iload_n 3, 1) := dk_29 (dk_at dksX12_gives_0 6 rfl rfl)
theorem dX12_gives_7 : decode cX12_gives 7 = .ok (.iconst 3, 1) := dk_6 (dk_at dksX12_gives_0 7 rfl rfl)
theorem dX12_gives_8 : decode cX12_gives 8 = .ok (.newarray .int, 2) := dk_188_10 (dk_at dksX12_gives_0 8 rfl rfl)
theorem dX12_gives_10 : decode cX12_gives 10 = .ok (.dup, 1) := dk_89 (dk_at dksX12_gives_0 10 rfl rfl)
theorem dX12_gives_11 : decode cX12_gives 11 = .ok (.iconst 0, 1) := dk_3 (dk_at dksX12_gives_0 11 rfl rfl)
theorem dX12_gives_12 : decode cX12_gives 12 = .ok (.iconst 1, 1) := dk_4 (dk_at dksX12_gives_0 12 rfl rfl)
theorem dX12_gives_13 : decode cX12_gives 13 = .ok (.iastore, 1) := dk_79 (dk_at dksX12_gives_0 13 rfl rfl)
theorem dX12_gives_14 : decode cX12_gives 14 = .ok (.dup, 1) := dk_89 (dk_at dksX12_gives_0 14 rfl rfl)
theorem dX12_gives_15 : decode cX12_gives 15 = .ok (.iconst 1, 1) := dk_4 (dk_at dksX12_gives_0 15 rfl rfl)
theorem dX12_gives_16 : decode cX12_gives 16 = .ok (.iload 5, 2) := dk_21 5 (dk_at dksX12_gives_0 16 rfl rfl)
theorem dX12_gives_18 : decode cX12_gives 18 = .ok (.bipush 10, 2) := dk_16 10 (dk_at dksX12_gives_0 18 rfl rfl)
theorem dX12_gives_20 : decode cX12_gives 20 = .ok (.idiv, 1) := dk_108 (dk_at dksX12_gives_0 20 rfl rfl)
theorem dX12_gives_21 : decode cX12_gives 21 = .ok (.iastore, 1) := dk_79 (dk_at dksX12_gives_0 21 rfl rfl)
theorem dX12_gives_22 : decode cX12_gives 22 = .ok (.dup, 1) := dk_89 (dk_at dksX12_gives_0 22 rfl rfl)
theorem dX12_gives_23 : decode cX12_gives 23 = .ok (.iconst 2, 1) := dk_5 (dk_at dksX12_gives_0 23 rfl rfl)
theorem dX12_gives_24 : decode cX12_gives 24 = .ok (.iload 5, 2) := dk_21 5 (dk_at dksX12_gives_1 0 rfl rfl)
theorem dX12_gives_26 : decode cX12_gives 26 = .ok (.bipush 10, 2) := dk_16 10 (dk_at dksX12_gives_1 2 rfl rfl)
theorem dX12_gives_28 : decode cX12_gives 28 = .ok (.irem, 1) := dk_112 (dk_at dksX12_gives_1 4 rfl rfl)
theorem dX12_gives_29 : decode cX12_gives 29 = .ok (.iastore, 1) := dk_79 (dk_at dksX12_gives_1 5 rfl rfl)
theorem dX12_gives_30 : decode cX12_gives 30 = .ok (.invokevirtual 102, 3) := dk_182 0 102 (dk_at dksX12_gives_1 6 rfl rfl)
theorem dX12_gives_33 : decode cX12_gives 33 = .ok (.goto 34, 3) := dk_167 0 34 (dk_at dksX12_gives_1 9 rfl rfl)
theorem dX12_gives_36 : decode cX12_gives 36 = .ok (.aload_n 0, 1) := dk_42 (dk_at dksX12_gives_1 12 rfl rfl)
theorem dX12_gives_37 : decode cX12_gives 37 = .ok (.new 82, 3) := dk_187 0 82 (dk_at dksX12_gives_1 13 rfl rfl)
theorem dX12_gives_40 : decode cX12_gives 40 = .ok (.dup, 1) := dk_89 (dk_at dksX12_gives_1 16 rfl rfl)
theorem dX12_gives_41 : decode cX12_gives 41 = .ok (.iload_n 1, 1) := dk_27 (dk_at dksX12_gives_1 17 rfl rfl)
theorem dX12_gives_42 : decode cX12_gives 42 = .ok (.iload_n 2, 1) := dk_28 (dk_at dksX12_gives_1 18 rfl rfl)
theorem dX12_gives_43 : decode cX12_gives 43 = .ok (.aload_n 0, 1) := dk_42 (dk_at dksX12_gives_1 19 rfl rfl)
theorem dX12_gives_44 : decode cX12_gives 44 = .ok (.iload_n 1, 1) := dk_27 (dk_at dksX12_gives_1 20 rfl rfl)
theorem dX12_gives_45 : decode cX12_gives 45 = .ok (.iload_n 2, 1) := dk_28 (dk_at dksX12_gives_1 21 rfl rfl)
theorem dX12_gives_46 : decode cX12_gives 46 = .ok (.invokevirtual 106, 3) := dk_182 0 106 (dk_at dksX12_gives_2 0 rfl rfl)
theorem dX12_gives_49 : decode cX12_gives 49 = .ok (.aload 4, 2) := dk_25 4 (dk_at dksX12_gives_2 3 rfl rfl)
theorem dX12_gives_51 : decode cX12_gives 51 = .ok (.getfield 109, 3) := dk_180 0 109 (dk_at dksX12_gives_2 5 rfl rfl)
theorem dX12_gives_54 : decode cX12_gives 54 = .ok (.iconst 0, 1) := dk_3 (dk_at dksX12_gives_2 8 rfl rfl)
theorem dX12_gives_55 : decode cX12_gives 55 = .ok (.iconst 0, 1) := dk_3 (dk_at dksX12_gives_2 9 rfl rfl)
theorem dX12_gives_56 : decode cX12_gives 56 = .ok (.aload 4, 2) := dk_25 4 (dk_at dksX12_gives_2 10 rfl rfl)
theorem dX12_gives_58 : decode cX12_gives 58 = .ok (.iload 5, 2) := dk_21 5 (dk_at dksX12_gives_2 12 rfl rfl)
theorem dX12_gives_60 : decode cX12_gives 60 = .ok (.aconst_null, 1) := dk_1 (dk_at dksX12_gives_2 14 rfl rfl)
theorem dX12_gives_61 : decode cX12_gives 61 = .ok (.invokespecial 115, 3) := dk_183 0 115 (dk_at dksX12_gives_2 15 rfl rfl)
theorem dX12_gives_64 : decode cX12_gives 64 = .ok (.invokevirtual 118, 3) := dk_182 0 118 (dk_at dksX12_gives_2 18 rfl rfl)
theorem dX12_gives_67 : decode cX12_gives 67 = .ok (.return_, 1) := dk_177 (dk_at dksX12_gives_2 21 rfl rfl)
abbrev cX12_end : ByteArray := prog_9_method_6_code
def yX12_end : MethodName := ⟨RX12, "end", "(I[I)V"⟩
def dkwX12_end_3 : List UInt8 := [45, 83, 177]
abbrev dktX12_end_3 : List UInt8 := dkwX12_end_3 ++ []
def dkwX12_end_2 : List UInt8 := [162, 0, 19, 45, 21, 4, 4, 96, 44, 21, 4, 46, 79, 132, 4, 1, 167, 255, 236, 42, 180, 0, 30, 27]
abbrev dktX12_end_2 : List UInt8 := dkwX12_end_2 ++ dktX12_end_3
def dkwX12_end_1 : List UInt8 := [79, 89, 7, 2, 79, 89, 8, 2, 79, 89, 16, 6, 2, 79, 78, 4, 54, 4, 21, 4, 44, 190]
abbrev dktX12_end_1 : List UInt8 := dkwX12_end_1 ++ dktX12_end_2
def dkwX12_end_0 : List UInt8 := [16, 7, 188, 10, 89, 3, 44, 3, 46, 79, 89, 4, 42, 180, 0, 78, 79, 89, 5, 2, 79, 89, 6, 2]
abbrev dktX12_end_0 : List UInt8 := dkwX12_end_0 ++ dktX12_end_1
theorem dksX12_end_0 : cX12_end.data.toList.drop 0 = dktX12_end_0 := by decide +kernel
theorem dksX12_end_1 : cX12_end.data.toList.drop 24 = dktX12_end_1 := dk_seg dksX12_end_0 24 rfl rfl
theorem dksX12_end_2 : cX12_end.data.toList.drop 46 = dktX12_end_2 := dk_seg dksX12_end_1 22 rfl rfl
theorem dksX12_end_3 : cX12_end.data.toList.drop 70 = dktX12_end_3 := dk_seg dksX12_end_2 24 rfl rfl
theorem dX12_end_0 : decode cX12_end 0 = .ok (.bipush 7, 2) := dk_16 7 (dk_at dksX12_end_0 0 rfl rfl)
theorem dX12_end_2 : decode cX12_end 2 = .ok (.newarray .int, 2) := dk_188_10 (dk_at dksX12_end_0 2 rfl rfl)
theorem dX12_end_4 : decode cX12_end 4 = .ok (.dup, 1) := dk_89 (dk_at dksX12_end_0 4 rfl rfl)
theorem dX12_end_5 : decode cX12_end 5 = .ok (.iconst 0, 1) := dk_3 (dk_at dksX12_end_0 5 rfl rfl)
theorem dX12_end_6 : decode cX12_end 6 = .ok (.aload_n 2, 1) := dk_44 (dk_at dksX12_end_0 6 rfl rfl)
theorem dX12_end_7 : decode cX12_end 7 = .ok (.iconst 0, 1) := dk_3 (dk_at dksX12_end_0 7 rfl rfl)
theorem dX12_end_8 : decode cX12_end 8 = .ok (.iaload, 1) := dk_46 (dk_at dksX12_end_0 8 rfl rfl)
theorem dX12_end_9 : decode cX12_end 9 = .ok (.iastore, 1) := dk_79 (dk_at dksX12_end_0 9 rfl rfl)
theorem dX12_end_10 : decode cX12_end 10 = .ok (.dup, 1) := dk_89 (dk_at dksX12_end_0 10 rfl rfl)
theorem dX12_end_11 : decode cX12_end 11 = .ok (.iconst 1, 1) := dk_4 (dk_at dksX12_end_0 11 rfl rfl)
theorem dX12_end_12 : decode cX12_end 12 = .ok (.aload_n 0, 1) := dk_42 (dk_at dksX12_end_0 12 rfl rfl)
theorem dX12_end_13 : decode cX12_end 13 = .ok (.getfield 78, 3) := dk_180 0 78 (dk_at dksX12_end_0 13 rfl rfl)
theorem dX12_end_16 : decode cX12_end 16 = .ok (.iastore, 1) := dk_79 (dk_at dksX12_end_0 16 rfl rfl)
theorem dX12_end_17 : decode cX12_end 17 = .ok (.dup, 1) := dk_89 (dk_at dksX12_end_0 17 rfl rfl)
theorem dX12_end_18 : decode cX12_end 18 = .ok (.iconst 2, 1) := dk_5 (dk_at dksX12_end_0 18 rfl rfl)
theorem dX12_end_19 : decode cX12_end 19 = .ok (.iconst (-1), 1) := dk_2 (dk_at dksX12_end_0 19 rfl rfl)
theorem dX12_end_20 : decode cX12_end 20 = .ok (.iastore, 1) := dk_79 (dk_at dksX12_end_0 20 rfl rfl)
theorem dX12_end_21 : decode cX12_end 21 = .ok (.dup, 1) := dk_89 (dk_at dksX12_end_0 21 rfl rfl)
theorem dX12_end_22 : decode cX12_end 22 = .ok (.iconst 3, 1) := dk_6 (dk_at dksX12_end_0 22 rfl rfl)
theorem dX12_end_23 : decode cX12_end 23 = .ok (.iconst (-1), 1) := dk_2 (dk_at dksX12_end_0 23 rfl rfl)
theorem dX12_end_24 : decode cX12_end 24 = .ok (.iastore, 1) := dk_79 (dk_at dksX12_end_1 0 rfl rfl)
theorem dX12_end_25 : decode cX12_end 25 = .ok (.dup, 1) := dk_89 (dk_at dksX12_end_1 1 rfl rfl)
theorem dX12_end_26 : decode cX12_end 26 = .ok (.iconst 4, 1) := dk_7 (dk_at dksX12_end_1 2 rfl rfl)
theorem dX12_end_27 : decode cX12_end 27 = .ok (.iconst (-1), 1) := dk_2 (dk_at dksX12_end_1 3 rfl rfl)
theorem dX12_end_28 : decode cX12_end 28 = .ok (.iastore, 1) := dk_79 (dk_at dksX12_end_1 4 rfl rfl)
theorem dX12_end_29 : decode cX12_end 29 = .ok (.dup, 1) := dk_89 (dk_at dksX12_end_1 5 rfl rfl)
theorem dX12_end_30 : decode cX12_end 30 = .ok (.iconst 5, 1) := dk_8 (dk_at dksX12_end_1 6 rfl rfl)
theorem dX12_end_31 : decode cX12_end 31 = .ok (.iconst (-1), 1) := dk_2 (dk_at dksX12_end_1 7 rfl rfl)
theorem dX12_end_32 : decode cX12_end 32 = .ok (.iastore, 1) := dk_79 (dk_at dksX12_end_1 8 rfl rfl)
theorem dX12_end_33 : decode cX12_end 33 = .ok (.dup, 1) := dk_89 (dk_at dksX12_end_1 9 rfl rfl)
theorem dX12_end_34 : decode cX12_end 34 = .ok (.bipush 6, 2) := dk_16 6 (dk_at dksX12_end_1 10 rfl rfl)
theorem dX12_end_36 : decode cX12_end 36 = .ok (.iconst (-1), 1) := dk_2 (dk_at dksX12_end_1 12 rfl rfl)
theorem dX12_end_37 : decode cX12_end 37 = .ok (.iastore, 1) := dk_79 (dk_at dksX12_end_1 13 rfl rfl)
theorem dX12_end_38 : decode cX12_end 38 = .ok (.astore_n 3, 1) := dk_78 (dk_at dksX12_end_1 14 rfl rfl)
theorem dX12_end_39 : decode cX12_end 39 = .ok (.iconst 1, 1) := dk_4 (dk_at dksX12_end_1 15 rfl rfl)
theorem dX12_end_40 : decode cX12_end 40 = .ok (.istore 4, 2) := dk_54 4 (dk_at dksX12_end_1 16 rfl rfl)
theorem dX12_end_42 : decode cX12_end 42 = .ok (.iload 4, 2) := dk_21 4 (dk_at dksX12_end_1 18 rfl rfl)
theorem dX12_end_44 : decode cX12_end 44 = .ok (.aload_n 2, 1) := dk_44 (dk_at dksX12_end_1 20 rfl rfl)
theorem dX12_end_45 : decode cX12_end 45 = .ok (.arraylength, 1) := dk_190 (dk_at dksX12_end_1 21 rfl rfl)
theorem dX12_end_46 : decode cX12_end 46 = .ok (.if_icmp .ge 19, 3) := dk_162 0 19 (dk_at dksX12_end_2 0 rfl rfl)
theorem dX12_end_49 : decode cX12_end 49 = .ok (.aload_n 3, 1) := dk_45 (dk_at dksX12_end_2 3 rfl rfl)
theorem dX12_end_50 : decode cX12_end 50 = .ok (.iload 4, 2) := dk_21 4 (dk_at dksX12_end_2 4 rfl rfl)
theorem dX12_end_52 : decode cX12_end 52 = .ok (.iconst 1, 1) := dk_4 (dk_at dksX12_end_2 6 rfl rfl)
theorem dX12_end_53 : decode cX12_end 53 = .ok (.iadd, 1) := dk_96 (dk_at dksX12_end_2 7 rfl rfl)
theorem dX12_end_54 : decode cX12_end 54 = .ok (.aload_n 2, 1) := dk_44 (dk_at dksX12_end_2 8 rfl rfl)
theorem dX12_end_55 : decode cX12_end 55 = .ok (.iload 4, 2) := dk_21 4 (dk_at dksX12_end_2 9 rfl rfl)
theorem dX12_end_57 : decode cX12_end 57 = .ok (.iaload, 1) := dk_46 (dk_at dksX12_end_2 11 rfl rfl)
theorem dX12_end_58 : decode cX12_end 58 = .ok (.iastore, 1) := dk_79 (dk_at dksX12_end_2 12 rfl rfl)
theorem dX12_end_59 : decode cX12_end 59 = .ok (.iinc 4 1, 3) := dk_132 4 1 (dk_at dksX12_end_2 13 rfl rfl)
theorem dX12_end_62 : decode cX12_end 62 = .ok (.goto (-20), 3) := dk_167 255 236 (dk_at dksX12_end_2 16 rfl rfl)
theorem dX12_end_65 : decode cX12_end 65 = .ok (.aload_n 0, 1) := dk_42 (dk_at dksX12_end_2 19 rfl rfl)
theorem dX12_end_66 : decode cX12_end 66 = .ok (.getfield 30, 3) := dk_180 0 30 (dk_at dksX12_end_2 20 rfl rfl)
theorem dX12_end_69 : decode cX12_end 69 = .ok (.iload_n 1, 1) := dk_27 (dk_at dksX12_end_2 23 rfl rfl)
theorem dX12_end_70 : decode cX12_end 70 = .ok (.aload_n 3, 1) := dk_45 (dk_at dksX12_end_3 0 rfl rfl)
theorem dX12_end_71 : decode cX12_end 71 = .ok (.aastore, 1) := dk_83 (dk_at dksX12_end_3 1 rfl rfl)
theorem dX12_end_72 : decode cX12_end 72 = .ok (.return_, 1) := dk_177 (dk_at dksX12_end_3 2 rfl rfl)
abbrev cX12_at : ByteArray := prog_9_method_8_code
def yX12_at : MethodName := ⟨RX12, "at", "(II)I"⟩
def dkwX12_at_0 : List UInt8 := [42, 180, 0, 78, 42, 180, 0, 34, 27, 28, 182, 0, 98, 96, 172]
abbrev dktX12_at_0 : List UInt8 := dkwX12_at_0 ++ []
theorem dksX12_at_0 : cX12_at.data.toList.drop 0 = dktX12_at_0 := by decide +kernel
theorem dX12_at_0 : decode cX12_at 0 = .ok (.aload_n 0, 1) := dk_42 (dk_at dksX12_at_0 0 rfl rfl)
theorem dX12_at_1 : decode cX12_at 1 = .ok (.getfield 78, 3) := dk_180 0 78 (dk_at dksX12_at_0 1 rfl rfl)
theorem dX12_at_4 : decode cX12_at 4 = .ok (.aload_n 0, 1) := dk_42 (dk_at dksX12_at_0 4 rfl rfl)
theorem dX12_at_5 : decode cX12_at 5 = .ok (.getfield 34, 3) := dk_180 0 34 (dk_at dksX12_at_0 5 rfl rfl)
theorem dX12_at_8 : decode cX12_at 8 = .ok (.iload_n 1, 1) := dk_27 (dk_at dksX12_at_0 8 rfl rfl)
theorem dX12_at_9 : decode cX12_at 9 = .ok (.iload_n 2, 1) := dk_28 (dk_at dksX12_at_0 9 rfl rfl)
theorem dX12_at_10 : decode cX12_at 10 = .ok (.invokevirtual 98, 3) := dk_182 0 98 (dk_at dksX12_at_0 10 rfl rfl)
theorem dX12_at_13 : decode cX12_at 13 = .ok (.iadd, 1) := dk_96 (dk_at dksX12_at_0 13 rfl rfl)
theorem dX12_at_14 : decode cX12_at 14 = .ok (.ireturn, 1) := dk_172 (dk_at dksX12_at_0 14 rfl rfl)
abbrev cX12_sends : ByteArray := prog_9_method_7_code
def yX12_sends : MethodName := ⟨RX12, "sends", "(LAskedNames$Message;)V"⟩
def dkwX12_sends_1 : List UInt8 := [181, 0, 92, 177, 42, 89, 180, 0, 95, 4, 96, 181, 0, 95, 42, 180, 0, 21, 43, 182, 0, 46, 87, 177]
abbrev dktX12_sends_1 : List UInt8 := dkwX12_sends_1 ++ []
def dkwX12_sends_0 : List UInt8 := [42, 43, 180, 0, 81, 43, 180, 0, 86, 182, 0, 89, 154, 0, 14, 42, 89, 180, 0, 92, 4, 96]
abbrev dktX12_sends_0 : List UInt8 := dkwX12_sends_0 ++ dktX12_sends_1
theorem dksX12_sends_0 : cX12_sends.data.toList.drop 0 = dktX12_sends_0 := by decide +kernel
theorem dksX12_sends_1 : cX12_sends.data.toList.drop 22 = dktX12_sends_1 := dk_seg dksX12_sends_0 22 rfl rfl
theorem dX12_sends_0 : decode cX12_sends 0 = .ok (.aload_n 0, 1) := dk_42 (dk_at dksX12_sends_0 0 rfl rfl)
theorem dX12_sends_1 : decode cX12_sends 1 = .ok (.aload_n 1, 1) := dk_43 (dk_at dksX12_sends_0 1 rfl rfl)
theorem dX12_sends_2 : decode cX12_sends 2 = .ok (.getfield 81, 3) := dk_180 0 81 (dk_at dksX12_sends_0 2 rfl rfl)
theorem dX12_sends_5 : decode cX12_sends 5 = .ok (.aload_n 1, 1) := dk_43 (dk_at dksX12_sends_0 5 rfl rfl)
theorem dX12_sends_6 : decode cX12_sends 6 = .ok (.getfield 86, 3) := dk_180 0 86 (dk_at dksX12_sends_0 6 rfl rfl)
theorem dX12_sends_9 : decode cX12_sends 9 = .ok (.invokevirtual 89, 3) := dk_182 0 89 (dk_at dksX12_sends_0 9 rfl rfl)
theorem dX12_sends_12 : decode cX12_sends 12 = .ok (.ifCond .ne 14, 3) := dk_154 0 14 (dk_at dksX12_sends_0 12 rfl rfl)
theorem dX12_sends_15 : decode cX12_sends 15 = .ok (.aload_n 0, 1) := dk_42 (dk_at dksX12_sends_0 15 rfl rfl)
theorem dX12_sends_16 : decode cX12_sends 16 = .ok (.dup, 1) := dk_89 (dk_at dksX12_sends_0 16 rfl rfl)
theorem dX12_sends_17 : decode cX12_sends 17 = .ok (.getfield 92, 3) := dk_180 0 92 (dk_at dksX12_sends_0 17 rfl rfl)
theorem dX12_sends_20 : decode cX12_sends 20 = .ok (.iconst 1, 1) := dk_4 (dk_at dksX12_sends_0 20 rfl rfl)
theorem dX12_sends_21 : decode cX12_sends 21 = .ok (.iadd, 1) := dk_96 (dk_at dksX12_sends_0 21 rfl rfl)
theorem dX12_sends_22 : decode cX12_sends 22 = .ok (.putfield 92, 3) := dk_181 0 92 (dk_at dksX12_sends_1 0 rfl rfl)
theorem dX12_sends_25 : decode cX12_sends 25 = .ok (.return_, 1) := dk_177 (dk_at dksX12_sends_1 3 rfl rfl)
theorem dX12_sends_26 : decode cX12_sends 26 = .ok (.aload_n 0, 1) := dk_42 (dk_at dksX12_sends_1 4 rfl rfl)
theorem dX12_sends_27 : decode cX12_sends 27 = .ok (.dup, 1) := dk_89 (dk_at dksX12_sends_1 5 rfl rfl)
theorem dX12_sends_28 : decode cX12_sends 28 = .ok (.getfield 95, 3) := dk_180 0 95 (dk_at dksX12_sends_1 6 rfl rfl)
theorem dX12_sends_31 : decode cX12_sends 31 = .ok (.iconst 1, 1) := dk_4 (dk_at dksX12_sends_1 9 rfl rfl)
theorem dX12_sends_32 : decode cX12_sends 32 = .ok (.iadd, 1) := dk_96 (dk_at dksX12_sends_1 10 rfl rfl)
theorem dX12_sends_33 : decode cX12_sends 33 = .ok (.putfield 95, 3) := dk_181 0 95 (dk_at dksX12_sends_1 11 rfl rfl)
theorem dX12_sends_36 : decode cX12_sends 36 = .ok (.aload_n 0, 1) := dk_42 (dk_at dksX12_sends_1 14 rfl rfl)
theorem dX12_sends_37 : decode cX12_sends 37 = .ok (.getfield 21, 3) := dk_180 0 21 (dk_at dksX12_sends_1 15 rfl rfl)
theorem dX12_sends_40 : decode cX12_sends 40 = .ok (.aload_n 1, 1) := dk_43 (dk_at dksX12_sends_1 18 rfl rfl)
theorem dX12_sends_41 : decode cX12_sends 41 = .ok (.invokevirtual 46, 3) := dk_182 0 46 (dk_at dksX12_sends_1 19 rfl rfl)
theorem dX12_sends_44 : decode cX12_sends 44 = .ok (.pop, 1) := dk_87 (dk_at dksX12_sends_1 22 rfl rfl)
theorem dX12_sends_45 : decode cX12_sends 45 = .ok (.return_, 1) := dk_177 (dk_at dksX12_sends_1 23 rfl rfl)
abbrev cX12_on : ByteArray := prog_9_method_17_code
def yX12_on : MethodName := ⟨RX12, "on", "(ILAskedNames$Entry;)V"⟩
def dkwX12_on_4 : List UInt8 := [44, 180, 1, 18, 1, 2, 1, 183, 0, 115, 182, 0, 118, 177]
abbrev dktX12_on_4 : List UInt8 := dkwX12_on_4 ++ []
def dkwX12_on_3 : List UInt8 := [181, 1, 14, 42, 187, 0, 82, 89, 27, 29, 42, 27, 29, 182, 0, 106, 44, 180, 0, 255, 44, 180, 1, 15]
abbrev dktX12_on_3 : List UInt8 := dkwX12_on_3 ++ dktX12_on_4
def dkwX12_on_2 : List UInt8 := [44, 29, 181, 1, 11, 44, 89, 180, 1, 3, 4, 29, 120, 128, 181, 1, 3, 44, 42, 180, 0, 78]
abbrev dktX12_on_2 : List UInt8 := dkwX12_on_2 ++ dktX12_on_3
def dkwX12_on_1 : List UInt8 := [42, 180, 0, 14, 27, 182, 0, 148, 192, 0, 43, 44, 182, 1, 6, 187, 0, 137, 89, 27, 183, 1, 10, 191]
abbrev dktX12_on_1 : List UInt8 := dkwX12_on_1 ++ dktX12_on_2
def dkwX12_on_0 : List UInt8 := [42, 27, 44, 180, 0, 255, 44, 180, 1, 0, 44, 180, 1, 3, 128, 182, 0, 246, 62, 29, 2, 160, 0, 27]
abbrev dktX12_on_0 : List UInt8 := dkwX12_on_0 ++ dktX12_on_1
theorem dksX12_on_0 : cX12_on.data.toList.drop 0 = dktX12_on_0 := by decide +kernel
theorem dksX12_on_1 : cX12_on.data.toList.drop 24 = dktX12_on_1 := dk_seg dksX12_on_0 24 rfl rfl
theorem dksX12_on_2 : cX12_on.data.toList.drop 48 = dktX12_on_2 := dk_seg dksX12_on_1 24 rfl rfl
theorem dksX12_on_3 : cX12_on.data.toList.drop 70 = dktX12_on_3 := dk_seg dksX12_on_2 22 rfl rfl
theorem dksX12_on_4 : cX12_on.data.toList.drop 94 = dktX12_on_4 := dk_seg dksX12_on_3 24 rfl rfl
theorem dX12_on_0 : decode cX12_on 0 = .ok (.aload_n 0, 1) := dk_42 (dk_at dksX12_on_0 0 rfl rfl)
theorem dX12_on_1 : decode cX12_on 1 = .ok (.iload_n 1, 1) := dk_27 (dk_at dksX12_on_0 1 rfl rfl)
theorem dX12_on_2 : decode cX12_on 2 = .ok (.aload_n 2, 1) := dk_44 (dk_at dksX12_on_0 2 rfl rfl)
theorem dX12_on_3 : decode cX12_on 3 = .ok (.getfield 255, 3) := dk_180 0 255 (dk_at dksX12_on_0 3 rfl rfl)
theorem dX12_on_6 : decode cX12_on 6 = .ok (.aload_n 2, 1) := dk_44 (dk_at dksX12_on_0 6 rfl rfl)
theorem dX12_on_7 : decode cX12_on 7 = .ok (.getfield 256, 3) := dk_180 1 0 (dk_at dksX12_on_0 7 rfl rfl)
theorem dX12_on_10 : decode cX12_on 10 = .ok (.aload_n 2, 1) := dk_44 (dk_at dksX12_on_0 10 rfl rfl)
theorem dX12_on_11 : decode cX12_on 11 = .ok (.getfield 259, 3) := dk_180 1 3 (dk_at dksX12_on_0 11 rfl rfl)
theorem dX12_on_14 : decode cX12_on 14 = .ok (.ior, 1) := dk_128 (dk_at dksX12_on_0 14 rfl rfl)
theorem dX12_on_15 : decode cX12_on 15 = .ok (.invokevirtual 246, 3) := dk_182 0 246 (dk_at dksX12_on_0 15 rfl rfl)
theorem dX12_on_18 : decode cX12_on 18 = .ok (.istore_n 3, 1) := dk_62 (dk_at dksX12_on_0 18 rfl rfl)
theorem dX12_on_19 : decode cX12_on 19 = .ok (.iload_n 3, 1) := dk_29 (dk_at dksX12_on_0 19 rfl rfl)
theorem dX12_on_20 : decode cX12_on 20 = .ok (.iconst (-1), 1) := dk_2 (dk_at dksX12_on_0 20 rfl rfl)
theorem dX12_on_21 : decode cX12_on 21 = .ok (.if_icmp .ne 27, 3) := dk_160 0 27 (dk_at dksX12_on_0 21 rfl rfl)
theorem dX12_on_24 : decode cX12_on 24 = .ok (.aload_n 0, 1) := dk_42 (dk_at dksX12_on_1 0 rfl rfl)
theorem dX12_on_25 : decode cX12_on 25 = .ok (.getfield 14, 3) := dk_180 0 14 (dk_at dksX12_on_1 1 rfl rfl)
theorem dX12_on_28 : decode cX12_on 28 = .ok (.iload_n 1, 1) := dk_27 (dk_at dksX12_on_1 4 rfl rfl)
theorem dX12_on_29 : decode cX12_on 29 = .ok (.invokevirtual 148, 3) := dk_182 0 148 (dk_at dksX12_on_1 5 rfl rfl)
theorem dX12_on_32 : decode cX12_on 32 = .ok (.checkcast 43, 3) := dk_192 0 43 (dk_at dksX12_on_1 8 rfl rfl)
theorem dX12_on_35 : decode cX12_on 35 = .ok (.aload_n 2, 1) := dk_44 (dk_at dksX12_on_1 11 rfl rfl)
theorem dX12_on_36 : decode cX12_on 36 = .ok (.invokevirtual 262, 3) := dk_182 1 6 (dk_at dksX12_on_1 12 rfl rfl)
theorem dX12_on_39 : decode cX12_on 39 = .ok (.new 137, 3) := dk_187 0 137 (dk_at dksX12_on_1 15 rfl rfl)
theorem dX12_on_42 : decode cX12_on 42 = .ok (.dup, 1) := dk_89 (dk_at dksX12_on_1 18 rfl rfl)
theorem dX12_on_43 : decode cX12_on 43 = .ok (.iload_n 1, 1) := dk_27 (dk_at dksX12_on_1 19 rfl rfl)
theorem dX12_on_44 : decode cX12_on 44 = .ok (.invokespecial 266, 3) := dk_183 1 10 (dk_at dksX12_on_1 20 rfl rfl)
theorem dX12_on_47 : decode cX12_on 47 = .ok (.athrow, 1) := dk_191 (dk_at dksX12_on_1 23 rfl rfl)
theorem dX12_on_48 : decode cX12_on 48 = .ok (.aload_n 2, 1) := dk_44 (dk_at dksX12_on_2 0 rfl rfl)
theorem dX12_on_49 : decode cX12_on 49 = .ok (.iload_n 3, 1) := dk_29 (dk_at dksX12_on_2 1 rfl rfl)
theorem dX12_on_50 : decode cX12_on 50 = .ok (.putfield 267, 3) := dk_181 1 11 (dk_at dksX12_on_2 2 rfl rfl)
theorem dX12_on_53 : decode cX12_on 53 = .ok (.aload_n 2, 1) := dk_44 (dk_at dksX12_on_2 5 rfl rfl)
theorem dX12_on_54 : decode cX12_on 54 = .ok (.dup, 1) := dk_89 (dk_at dksX12_on_2 6 rfl rfl)
theorem dX12_on_55 : decode cX12_on 55 = .ok (.getfield 259, 3) := dk_180 1 3 (dk_at dksX12_on_2 7 rfl rfl)
theorem dX12_on_58 : decode cX12_on 58 = .ok (.iconst 1, 1) := dk_4 (dk_at dksX12_on_2 10 rfl rfl)
theorem dX12_on_59 : decode cX12_on 59 = .ok (.iload_n 3, 1) := dk_29 (dk_at dksX12_on_2 11 rfl rfl)
theorem dX12_on_60 : decode cX12_on 60 = .ok (.ishl, 1) := dk_120 (dk_at dksX12_on_2 12 rfl rfl)
theorem dX12_on_61 : decode cX12_on 61 = .ok (.ior, 1) := dk_128 (dk_at dksX12_on_2 13 rfl rfl)
theorem dX12_on_62 : decode cX12_on 62 = .ok (.putfield 259, 3) := dk_181 1 3 (dk_at dksX12_on_2 14 rfl rfl)
theorem dX12_on_65 : decode cX12_on 65 = .ok (.aload_n 2, 1) := dk_44 (dk_at dksX12_on_2 17 rfl rfl)
theorem dX12_on_66 : decode cX12_on 66 = .ok (.aload_n 0, 1) := dk_42 (dk_at dksX12_on_2 18 rfl rfl)
theorem dX12_on_67 : decode cX12_on 67 = .ok (.getfield 78, 3) := dk_180 0 78 (dk_at dksX12_on_2 19 rfl rfl)
theorem dX12_on_70 : decode cX12_on 70 = .ok (.putfield 270, 3) := dk_181 1 14 (dk_at dksX12_on_3 0 rfl rfl)
theorem dX12_on_73 : decode cX12_on 73 = .ok (.aload_n 0, 1) := dk_42 (dk_at dksX12_on_3 3 rfl rfl)
theorem dX12_on_74 : decode cX12_on 74 = .ok (.new 82, 3) := dk_187 0 82 (dk_at dksX12_on_3 4 rfl rfl)
theorem dX12_on_77 : decode cX12_on 77 = .ok (.dup, 1) := dk_89 (dk_at dksX12_on_3 7 rfl rfl)
theorem dX12_on_78 : decode cX12_on 78 = .ok (.iload_n 1, 1) := dk_27 (dk_at dksX12_on_3 8 rfl rfl)
theorem dX12_on_79 : decode cX12_on 79 = .ok (.iload_n 3, 1) := dk_29 (dk_at dksX12_on_3 9 rfl rfl)
theorem dX12_on_80 : decode cX12_on 80 = .ok (.aload_n 0, 1) := dk_42 (dk_at dksX12_on_3 10 rfl rfl)
theorem dX12_on_81 : decode cX12_on 81 = .ok (.iload_n 1, 1) := dk_27 (dk_at dksX12_on_3 11 rfl rfl)
theorem dX12_on_82 : decode cX12_on 82 = .ok (.iload_n 3, 1) := dk_29 (dk_at dksX12_on_3 12 rfl rfl)
theorem dX12_on_83 : decode cX12_on 83 = .ok (.invokevirtual 106, 3) := dk_182 0 106 (dk_at dksX12_on_3 13 rfl rfl)
theorem dX12_on_86 : decode cX12_on 86 = .ok (.aload_n 2, 1) := dk_44 (dk_at dksX12_on_3 16 rfl rfl)
theorem dX12_on_87 : decode cX12_on 87 = .ok (.getfield 255, 3) := dk_180 0 255 (dk_at dksX12_on_3 17 rfl rfl)
theorem dX12_on_90 : decode cX12_on 90 = .ok (.aload_n 2, 1) := dk_44 (dk_at dksX12_on_3 20 rfl rfl)
theorem dX12_on_91 : decode cX12_on 91 = .ok (.getfield 271, 3) := dk_180 1 15 (dk_at dksX12_on_3 21 rfl rfl)
theorem dX12_on_94 : decode cX12_on 94 = .ok (.aload_n 2, 1) := dk_44 (dk_at dksX12_on_4 0 rfl rfl)
theorem dX12_on_95 : decode cX12_on 95 = .ok (.getfield 274, 3) := dk_180 1 18 (dk_at dksX12_on_4 1 rfl rfl)
theorem dX12_on_98 : decode cX12_on 98 = .ok (.aconst_null, 1) := dk_1 (dk_at dksX12_on_4 4 rfl rfl)
theorem dX12_on_99 : decode cX12_on 99 = .ok (.iconst (-1), 1) := dk_2 (dk_at dksX12_on_4 5 rfl rfl)
theorem dX12_on_100 : decode cX12_on 100 = .ok (.aconst_null, 1) := dk_1 (dk_at dksX12_on_4 6 rfl rfl)
theorem dX12_on_101 : decode cX12_on 101 = .ok (.invokespecial 115, 3) := dk_183 0 115 (dk_at dksX12_on_4 7 rfl rfl)
theorem dX12_on_104 : decode cX12_on 104 = .ok (.invokevirtual 118, 3) := dk_182 0 118 (dk_at dksX12_on_4 10 rfl rfl)
theorem dX12_on_107 : decode cX12_on 107 = .ok (.return_, 1) := dk_177 (dk_at dksX12_on_4 13 rfl rfl)
abbrev cX12_refuses : ByteArray := prog_9_method_10_code
def yX12_refuses : MethodName := ⟨RX12, "refuses", "(IIILjava/lang/String;ILAskedNames$Refused;)V"⟩
def dkwX12_refuses_3 : List UInt8 := [182, 0, 106, 25, 4, 21, 5, 3, 1, 2, 25, 6, 183, 0, 115, 182, 0, 118, 177]
abbrev dktX12_refuses_3 : List UInt8 := dkwX12_refuses_3 ++ []
def dkwX12_refuses_2 : List UInt8 := [8, 25, 6, 182, 0, 130, 79, 182, 0, 102, 167, 0, 31, 42, 187, 0, 82, 89, 27, 28, 42, 27, 28]
abbrev dktX12_refuses_2 : List UInt8 := dkwX12_refuses_2 ++ dktX12_refuses_3
def dkwX12_refuses_1 : List UInt8 := [6, 25, 6, 182, 0, 122, 79, 89, 7, 25, 6, 182, 0, 127, 153, 0, 7, 5, 167, 0, 4, 4, 79, 89]
abbrev dktX12_refuses_1 : List UInt8 := dkwX12_refuses_1 ++ dktX12_refuses_2
def dkwX12_refuses_0 : List UInt8 := [28, 2, 160, 0, 59, 42, 29, 16, 6, 188, 10, 89, 3, 5, 79, 89, 4, 2, 79, 89, 5, 2, 79, 89]
abbrev dktX12_refuses_0 : List UInt8 := dkwX12_refuses_0 ++ dktX12_refuses_1
theorem dksX12_refuses_0 : cX12_refuses.data.toList.drop 0 = dktX12_refuses_0 := by decide +kernel
theorem dksX12_refuses_1 : cX12_refuses.data.toList.drop 24 = dktX12_refuses_1 := dk_seg dksX12_refuses_0 24 rfl rfl
theorem dksX12_refuses_2 : cX12_refuses.data.toList.drop 48 = dktX12_refuses_2 := dk_seg dksX12_refuses_1 24 rfl rfl
theorem dksX12_refuses_3 : cX12_refuses.data.toList.drop 71 = dktX12_refuses_3 := dk_seg dksX12_refuses_2 23 rfl rfl
theorem dX12_refuses_0 : decode cX12_refuses 0 = .ok (.iload_n 2, 1) := dk_28 (dk_at dksX12_refuses_0 0 rfl rfl)
theorem dX12_refuses_1 : decode cX12_refuses 1 = .ok (.iconst (-1), 1) := dk_2 (dk_at dksX12_refuses_0 1 rfl rfl)
theorem dX12_refuses_2 : decode cX12_refuses 2 = .ok (.if_icmp .ne 59, 3) := dk_160 0 59 (dk_at dksX12_refuses_0 2 rfl rfl)
theorem dX12_refuses_5 : decode cX12_refuses 5 = .ok (.aload_n 0, 1) := dk_42 (dk_at dksX12_refuses_0 5 rfl rfl)
theorem dX12_refuses_6 : decode cX12_refuses 6 = .ok (.iload_n 3, 1) := dk_29 (dk_at dksX12_refuses_0 6 rfl rfl)
theorem dX12_refuses_7 : decode cX12_refuses 7 = .ok (.bipush 6, 2) := dk_16 6 (dk_at dksX12_refuses_0 7 rfl rfl)
theorem dX12_refuses_9 : decode cX12_refuses 9 = .ok (.newarray .int, 2) := dk_188_10 (dk_at dksX12_refuses_0 9 rfl rfl)
theorem dX12_refuses_11 : decode cX12_refuses 11 = .ok (.dup, 1) := dk_89 (dk_at dksX12_refuses_0 11 rfl rfl)
theorem dX12_refuses_12 : decode cX12_refuses 12 = .ok (.iconst 0, 1) := dk_3 (dk_at dksX12_refuses_0 12 rfl rfl)
theorem dX12_refuses_13 : decode cX12_refuses 13 = .ok (.iconst 2, 1) := dk_5 (dk_at dksX12_refuses_0 13 rfl rfl)
theorem dX12_refuses_14 : decode cX12_refuses 14 = .ok (.iastore, 1) := dk_79 (dk_at dksX12_refuses_0 14 rfl rfl)
theorem dX12_refuses_15 : decode cX12_refuses 15 = .ok (.dup, 1) := dk_89 (dk_at dksX12_refuses_0 15 rfl rfl)
theorem dX12_refuses_16 : decode cX12_refuses 16 = .ok (.iconst 1, 1) := dk_4 (dk_at dksX12_refuses_0 16 rfl rfl)
theorem dX12_refuses_17 : decode cX12_refuses 17 = .ok (.iconst (-1), 1) := dk_2 (dk_at dksX12_refuses_0 17 rfl rfl)
theorem dX12_refuses_18 : decode cX12_refuses 18 = .ok (.iastore, 1) := dk_79 (dk_at dksX12_refuses_0 18 rfl rfl)
theorem dX12_refuses_19 : decode cX12_refuses 19 = .ok (.dup, 1) := dk_89 (dk_at dksX12_refuses_0 19 rfl rfl)
theorem dX12_refuses_20 : decode cX12_refuses 20 = .ok (.iconst 2, 1) := dk_5 (dk_at dksX12_refuses_0 20 rfl rfl)
theorem dX12_refuses_21 : decode cX12_refuses 21 = .ok (.iconst (-1), 1) := dk_2 (dk_at dksX12_refuses_0 21 rfl rfl)
theorem dX12_refuses_22 : decode cX12_refuses 22 = .ok (.iastore, 1) := dk_79 (dk_at dksX12_refuses_0 22 rfl rfl)
theorem dX12_refuses_23 : decode cX12_refuses 23 = .ok (.dup, 1) := dk_89 (dk_at dksX12_refuses_0 23 rfl rfl)
theorem dX12_refuses_24 : decode cX12_refuses 24 = .ok (.iconst 3, 1) := dk_6 (dk_at dksX12_refuses_1 0 rfl rfl)
theorem dX12_refuses_25 : decode cX12_refuses 25 = .ok (.aload 6, 2) := dk_25 6 (dk_at dksX12_refuses_1 1 rfl rfl)
theorem dX12_refuses_27 : decode cX12_refuses 27 = .ok (.invokevirtual 122, 3) := dk_182 0 122 (dk_at dksX12_refuses_1 3 rfl rfl)
theorem dX12_refuses_30 : decode cX12_refuses 30 = .ok (.iastore, 1) := dk_79 (dk_at dksX12_refuses_1 6 rfl rfl)
theorem dX12_refuses_31 : decode cX12_refuses 31 = .ok (.dup, 1) := dk_89 (dk_at dksX12_refuses_1 7 rfl rfl)
theorem dX12_refuses_32 : decode cX12_refuses 32 = .ok (.iconst 4, 1) := dk_7 (dk_at dksX12_refuses_1 8 rfl rfl)
theorem dX12_refuses_33 : decode cX12_refuses 33 = .ok (.aload 6, 2) := dk_25 6 (dk_at dksX12_refuses_1 9 rfl rfl)
theorem dX12_refuses_35 : decode cX12_refuses 35 = .ok (.invokevirtual 127, 3) := dk_182 0 127 (dk_at dksX12_refuses_1 11 rfl rfl)
theorem dX12_refuses_38 : decode cX12_refuses 38 = .ok (.ifCond .eq 7, 3) := dk_153 0 7 (dk_at dksX12_refuses_1 14 rfl rfl)
theorem dX12_refuses_41 : decode cX12_refuses 41 = .ok (.iconst 2, 1) := dk_5 (dk_at dksX12_refuses_1 17 rfl rfl)
theorem dX12_refuses_42 : decode cX12_refuses 42 = .ok (.goto 4, 3) := dk_167 0 4 (dk_at dksX12_refuses_1 18 rfl rfl)
theorem dX12_refuses_45 : decode cX12_refuses 45 = .ok (.iconst 1, 1) := dk_4 (dk_at dksX12_refuses_1 21 rfl rfl)
theorem dX12_refuses_46 : decode cX12_refuses 46 = .ok (.iastore, 1) := dk_79 (dk_at dksX12_refuses_1 22 rfl rfl)
theorem dX12_refuses_47 : decode cX12_refuses 47 = .ok (.dup, 1) := dk_89 (dk_at dksX12_refuses_1 23 rfl rfl)
theorem dX12_refuses_48 : decode cX12_refuses 48 = .ok (.iconst 5, 1) := dk_8 (dk_at dksX12_refuses_2 0 rfl rfl)
theorem dX12_refuses_49 : decode cX12_refuses 49 = .ok (.aload 6, 2) := dk_25 6 (dk_at dksX12_refuses_2 1 rfl rfl)
theorem dX12_refuses_51 : decode cX12_refuses 51 = .ok (.invokevirtual 130, 3) := dk_182 0 130 (dk_at dksX12_refuses_2 3 rfl rfl)
theorem dX12_refuses_54 : decode cX12_refuses 54 = .ok (.iastore, 1) := dk_79 (dk_at dksX12_refuses_2 6 rfl rfl)
theorem dX12_refuses_55 : decode cX12_refuses 55 = .ok (.invokevirtual 102, 3) := dk_182 0 102 (dk_at dksX12_refuses_2 7 rfl rfl)
theorem dX12_refuses_58 : decode cX12_refuses 58 = .ok (.goto 31, 3) := dk_167 0 31 (dk_at dksX12_refuses_2 10 rfl rfl)
theorem dX12_refuses_61 : decode cX12_refuses 61 = .ok (.aload_n 0, 1) := dk_42 (dk_at dksX12_refuses_2 13 rfl rfl)
theorem dX12_refuses_62 : decode cX12_refuses 62 = .ok (.new 82, 3) := dk_187 0 82 (dk_at dksX12_refuses_2 14 rfl rfl)
theorem dX12_refuses_65 : decode cX12_refuses 65 = .ok (.dup, 1) := dk_89 (dk_at dksX12_refuses_2 17 rfl rfl)
theorem dX12_refuses_66 : decode cX12_refuses 66 = .ok (.iload_n 1, 1) := dk_27 (dk_at dksX12_refuses_2 18 rfl rfl)
theorem dX12_refuses_67 : decode cX12_refuses 67 = .ok (.iload_n 2, 1) := dk_28 (dk_at dksX12_refuses_2 19 rfl rfl)
theorem dX12_refuses_68 : decode cX12_refuses 68 = .ok (.aload_n 0, 1) := dk_42 (dk_at dksX12_refuses_2 20 rfl rfl)
theorem dX12_refuses_69 : decode cX12_refuses 69 = .ok (.iload_n 1, 1) := dk_27 (dk_at dksX12_refuses_2 21 rfl rfl)
theorem dX12_refuses_70 : decode cX12_refuses 70 = .ok (.iload_n 2, 1) := dk_28 (dk_at dksX12_refuses_2 22 rfl rfl)
theorem dX12_refuses_71 : decode cX12_refuses 71 = .ok (.invokevirtual 106, 3) := dk_182 0 106 (dk_at dksX12_refuses_3 0 rfl rfl)
theorem dX12_refuses_74 : decode cX12_refuses 74 = .ok (.aload 4, 2) := dk_25 4 (dk_at dksX12_refuses_3 3 rfl rfl)
theorem dX12_refuses_76 : decode cX12_refuses 76 = .ok (.iload 5, 2) := dk_21 5 (dk_at dksX12_refuses_3 5 rfl rfl)
theorem dX12_refuses_78 : decode cX12_refuses 78 = .ok (.iconst 0, 1) := dk_3 (dk_at dksX12_refuses_3 7 rfl rfl)
theorem dX12_refuses_79 : decode cX12_refuses 79 = .ok (.aconst_null, 1) := dk_1 (dk_at dksX12_refuses_3 8 rfl rfl)
theorem dX12_refuses_80 : decode cX12_refuses 80 = .ok (.iconst (-1), 1) := dk_2 (dk_at dksX12_refuses_3 9 rfl rfl)
theorem dX12_refuses_81 : decode cX12_refuses 81 = .ok (.aload 6, 2) := dk_25 6 (dk_at dksX12_refuses_3 10 rfl rfl)
theorem dX12_refuses_83 : decode cX12_refuses 83 = .ok (.invokespecial 115, 3) := dk_183 0 115 (dk_at dksX12_refuses_3 12 rfl rfl)
theorem dX12_refuses_86 : decode cX12_refuses 86 = .ok (.invokevirtual 118, 3) := dk_182 0 118 (dk_at dksX12_refuses_3 15 rfl rfl)
theorem dX12_refuses_89 : decode cX12_refuses 89 = .ok (.return_, 1) := dk_177 (dk_at dksX12_refuses_3 18 rfl rfl)
abbrev cX12_minute : ByteArray := prog_9_method_22_code
def yX12_minute : MethodName := ⟨RX12, "minute", "()V"⟩
def dkwX12_minute_8 : List UInt8 := [177]
abbrev dktX12_minute_8 : List UInt8 := dkwX12_minute_8 ++ []
def dkwX12_minute_7 : List UInt8 := [182, 0, 74, 162, 0, 21, 42, 43, 29, 182, 0, 148, 192, 0, 82, 182, 1, 91, 132, 3, 1, 167, 255, 233]
abbrev dktX12_minute_7 : List UInt8 := dkwX12_minute_7 ++ dktX12_minute_8
def dkwX12_minute_6 : List UInt8 := [42, 180, 0, 21, 42, 180, 0, 21, 182, 0, 74, 4, 100, 182, 1, 75, 87, 167, 255, 228, 3, 62, 29, 43]
abbrev dktX12_minute_6 : List UInt8 := dkwX12_minute_6 ++ dktX12_minute_7
def dkwX12_minute_5 : List UInt8 := [182, 1, 87, 87, 132, 2, 1, 132, 3, 1, 167, 255, 193, 42, 180, 0, 21, 182, 0, 74, 28, 164, 0, 23]
abbrev dktX12_minute_5 : List UInt8 := dkwX12_minute_5 ++ dktX12_minute_6
def dkwX12_minute_4 : List UInt8 := [42, 180, 0, 78, 160, 0, 13, 43, 25, 4, 182, 0, 46, 87, 167, 0, 17, 42, 180, 0, 21, 28, 25, 4]
abbrev dktX12_minute_4 : List UInt8 := dkwX12_minute_4 ++ dktX12_minute_5
def dkwX12_minute_3 : List UInt8 := [182, 0, 74, 162, 0, 58, 42, 180, 0, 21, 29, 182, 0, 148, 192, 0, 82, 58, 4, 25, 4, 180, 1, 85]
abbrev dktX12_minute_3 : List UInt8 := dkwX12_minute_3 ++ dktX12_minute_4
def dkwX12_minute_2 : List UInt8 := [154, 0, 4, 177, 187, 0, 9, 89, 5, 183, 0, 11, 76, 3, 61, 3, 62, 29, 42, 180, 0, 21]
abbrev dktX12_minute_2 : List UInt8 := dkwX12_minute_2 ++ dktX12_minute_3
def dkwX12_minute_1 : List UInt8 := [42, 180, 0, 14, 27, 182, 0, 148, 192, 0, 43, 182, 1, 78, 132, 1, 1, 167, 255, 227, 42, 182, 1, 82]
abbrev dktX12_minute_1 : List UInt8 := dkwX12_minute_1 ++ dktX12_minute_2
def dkwX12_minute_0 : List UInt8 := [42, 89, 180, 0, 78, 4, 96, 181, 0, 78, 3, 60, 27, 42, 180, 0, 14, 182, 0, 74, 162, 0, 24, 42]
abbrev dktX12_minute_0 : List UInt8 := dkwX12_minute_0 ++ dktX12_minute_1
theorem dksX12_minute_0 : cX12_minute.data.toList.drop 0 = dktX12_minute_0 := by decide +kernel
theorem dksX12_minute_1 : cX12_minute.data.toList.drop 24 = dktX12_minute_1 := dk_seg dksX12_minute_0 24 rfl rfl
theorem dksX12_minute_2 : cX12_minute.data.toList.drop 48 = dktX12_minute_2 := dk_seg dksX12_minute_1 24 rfl rfl
theorem dksX12_minute_3 : cX12_minute.data.toList.drop 70 = dktX12_minute_3 := dk_seg dksX12_minute_2 22 rfl rfl
theorem dksX12_minute_4 : cX12_minute.data.toList.drop 94 = dktX12_minute_4 := dk_seg dksX12_minute_3 24 rfl rfl
theorem dksX12_minute_5 : cX12_minute.data.toList.drop 118 = dktX12_minute_5 := dk_seg dksX12_minute_4 24 rfl rfl
theorem dksX12_minute_6 : cX12_minute.data.toList.drop 142 = dktX12_minute_6 := dk_seg dksX12_minute_5 24 rfl rfl
theorem dksX12_minute_7 : cX12_minute.data.toList.drop 166 = dktX12_minute_7 := dk_seg dksX12_minute_6 24 rfl rfl
theorem dksX12_minute_8 : cX12_minute.data.toList.drop 190 = dktX12_minute_8 := dk_seg dksX12_minute_7 24 rfl rfl
theorem dX12_minute_0 : decode cX12_minute 0 = .ok (.aload_n 0, 1) := dk_42 (dk_at dksX12_minute_0 0 rfl rfl)
theorem dX12_minute_1 : decode cX12_minute 1 = .ok (.dup, 1) := dk_89 (dk_at dksX12_minute_0 1 rfl rfl)
theorem dX12_minute_2 : decode cX12_minute 2 = .ok (.getfield 78, 3) := dk_180 0 78 (dk_at dksX12_minute_0 2 rfl rfl)
theorem dX12_minute_5 : decode cX12_minute 5 = .ok (.iconst 1, 1) := dk_4 (dk_at dksX12_minute_0 5 rfl rfl)
theorem dX12_minute_6 : decode cX12_minute 6 = .ok (.iadd, 1) := dk_96 (dk_at dksX12_minute_0 6 rfl rfl)
theorem dX12_minute_7 : decode cX12_minute 7 = .ok (.putfield 78, 3) := dk_181 0 78 (dk_at dksX12_minute_0 7 rfl rfl)
theorem dX12_minute_10 : decode cX12_minute 10 = .ok (.iconst 0, 1) := dk_3 (dk_at dksX12_minute_0 10 rfl rfl)
theorem dX12_minute_11 : decode cX12_minute 11 = .ok (.istore_n 1, 1) := dk_60 (dk_at dksX12_minute_0 11 rfl rfl)
theorem dX12_minute_12 : decode cX12_minute 12 = .ok (.iload_n 1, 1) := dk_27 (dk_at dksX12_minute_0 12 rfl rfl)
theorem dX12_minute_13 : decode cX12_minute 13 = .ok (.aload_n 0, 1) := dk_42 (dk_at dksX12_minute_0 13 rfl rfl)
theorem dX12_minute_14 : decode cX12_minute 14 = .ok (.getfield 14, 3) := dk_180 0 14 (dk_at dksX12_minute_0 14 rfl rfl)
theorem dX12_minute_17 : decode cX12_minute 17 = .ok (.invokevirtual 74, 3) := dk_182 0 74 (dk_at dksX12_minute_0 17 rfl rfl)
theorem dX12_minute_20 : decode cX12_minute 20 = .ok (.if_icmp .ge 24, 3) := dk_162 0 24 (dk_at dksX12_minute_0 20 rfl rfl)
theorem dX12_minute_23 : decode cX12_minute 23 = .ok (.aload_n 0, 1) := dk_42 (dk_at dksX12_minute_0 23 rfl rfl)
theorem dX12_minute_24 : decode cX12_minute 24 = .ok (.aload_n 0, 1) := dk_42 (dk_at dksX12_minute_1 0 rfl rfl)
theorem dX12_minute_25 : decode cX12_minute 25 = .ok (.getfield 14, 3) := dk_180 0 14 (dk_at dksX12_minute_1 1 rfl rfl)
theorem dX12_minute_28 : decode cX12_minute 28 = .ok (.iload_n 1, 1) := dk_27 (dk_at dksX12_minute_1 4 rfl rfl)
theorem dX12_minute_29 : decode cX12_minute 29 = .ok (.invokevirtual 148, 3) := dk_182 0 148 (dk_at dksX12_minute_1 5 rfl rfl)
theorem dX12_minute_32 : decode cX12_minute 32 = .ok (.checkcast 43, 3) := dk_192 0 43 (dk_at dksX12_minute_1 8 rfl rfl)
theorem dX12_minute_35 : decode cX12_minute 35 = .ok (.invokevirtual 334, 3) := dk_182 1 78 (dk_at dksX12_minute_1 11 rfl rfl)
theorem dX12_minute_38 : decode cX12_minute 38 = .ok (.iinc 1 1, 3) := dk_132 1 1 (dk_at dksX12_minute_1 14 rfl rfl)
theorem dX12_minute_41 : decode cX12_minute 41 = .ok (.goto (-29), 3) := dk_167 255 227 (dk_at dksX12_minute_1 17 rfl rfl)
theorem dX12_minute_44 : decode cX12_minute 44 = .ok (.aload_n 0, 1) := dk_42 (dk_at dksX12_minute_1 20 rfl rfl)
theorem dX12_minute_45 : decode cX12_minute 45 = .ok (.invokevirtual 338, 3) := dk_182 1 82 (dk_at dksX12_minute_1 21 rfl rfl)
theorem dX12_minute_48 : decode cX12_minute 48 = .ok (.ifCond .ne 4, 3) := dk_154 0 4 (dk_at dksX12_minute_2 0 rfl rfl)
theorem dX12_minute_51 : decode cX12_minute 51 = .ok (.return_, 1) := dk_177 (dk_at dksX12_minute_2 3 rfl rfl)
theorem dX12_minute_52 : decode cX12_minute 52 = .ok (.new 9, 3) := dk_187 0 9 (dk_at dksX12_minute_2 4 rfl rfl)
theorem dX12_minute_55 : decode cX12_minute 55 = .ok (.dup, 1) := dk_89 (dk_at dksX12_minute_2 7 rfl rfl)
theorem dX12_minute_56 : decode cX12_minute 56 = .ok (.iconst 2, 1) := dk_5 (dk_at dksX12_minute_2 8 rfl rfl)
theorem dX12_minute_57 : decode cX12_minute 57 = .ok (.invokespecial 11, 3) := dk_183 0 11 (dk_at dksX12_minute_2 9 rfl rfl)
theorem dX12_minute_60 : decode cX12_minute 60 = .ok (.astore_n 1, 1) := dk_76 (dk_at dksX12_minute_2 12 rfl rfl)
theorem dX12_minute_61 : decode cX12_minute 61 = .ok (.iconst 0, 1) := dk_3 (dk_at dksX12_minute_2 13 rfl rfl)
theorem dX12_minute_62 : decode cX12_minute 62 = .ok (.istore_n 2, 1) := dk_61 (dk_at dksX12_minute_2 14 rfl rfl)
theorem dX12_minute_63 : decode cX12_minute 63 = .ok (.iconst 0, 1) := dk_3 (dk_at dksX12_minute_2 15 rfl rfl)
theorem dX12_minute_64 : decode cX12_minute 64 = .ok (.istore_n 3, 1) := dk_62 (dk_at dksX12_minute_2 16 rfl rfl)
theorem dX12_minute_65 : decode cX12_minute 65 = .ok (.iload_n 3, 1) := dk_29 (dk_at dksX12_minute_2 17 rfl rfl)
theorem dX12_minute_66 : decode cX12_minute 66 = .ok (.aload_n 0, 1) := dk_42 (dk_at dksX12_minute_2 18 rfl rfl)
theorem dX12_minute_67 : decode cX12_minute 67 = .ok (.getfield 21, 3) := dk_180 0 21 (dk_at dksX12_minute_2 19 rfl rfl)
theorem dX12_minute_70 : decode cX12_minute 70 = .ok (.invokevirtual 74, 3) := dk_182 0 74 (dk_at dksX12_minute_3 0 rfl rfl)
theorem dX12_minute_73 : decode cX12_minute 73 = .ok (.if_icmp .ge 58, 3) := dk_162 0 58 (dk_at dksX12_minute_3 3 rfl rfl)
theorem dX12_minute_76 : decode cX12_minute 76 = .ok (.aload_n 0, 1) := dk_42 (dk_at dksX12_minute_3 6 rfl rfl)
theorem dX12_minute_77 : decode cX12_minute 77 = .ok (.getfield 21, 3) := dk_180 0 21 (dk_at dksX12_minute_3 7 rfl rfl)
theorem dX12_minute_80 : decode cX12_minute 80 = .ok (.iload_n 3, 1) := dk_29 (dk_at dksX12_minute_3 10 rfl rfl)
theorem dX12_minute_81 : decode cX12_minute 81 = .ok (.invokevirtual 148, 3) := dk_182 0 148 (dk_at dksX12_minute_3 11 rfl rfl)
theorem dX12_minute_84 : decode cX12_minute 84 = .ok (.checkcast 82, 3) := dk_192 0 82 (dk_at dksX12_minute_3 14 rfl rfl)
theorem dX12_minute_87 : decode cX12_minute 87 = .ok (.astore 4, 2) := dk_58 4 (dk_at dksX12_minute_3 17 rfl rfl)
theorem dX12_minute_89 : decode cX12_minute 89 = .ok (.aload 4, 2) := dk_25 4 (dk_at dksX12_minute_3 19 rfl rfl)
theorem dX12_minute_91 : decode cX12_minute 91 = .ok (.getfield 341, 3) := dk_180 1 85 (dk_at dksX12_minute_3 21 rfl rfl)
theorem dX12_minute_94 : decode cX12_minute 94 = .ok (.aload_n 0, 1) := dk_42 (dk_at dksX12_minute_4 0 rfl rfl)
theorem dX12_minute_95 : decode cX12_minute 95 = .ok (.getfield 78, 3) := dk_180 0 78 (dk_at dksX12_minute_4 1 rfl rfl)
theorem dX12_minute_98 : decode cX12_minute 98 = .ok (.if_icmp .ne 13, 3) := dk_160 0 13 (dk_at dksX12_minute_4 4 rfl rfl)
theorem dX12_minute_101 : decode cX12_minute 101 = .ok (.aload_n 1, 1) := dk_43 (dk_at dksX12_minute_4 7 rfl rfl)
theorem dX12_minute_102 : decode cX12_minute 102 = .ok (.aload 4, 2) := dk_25 4 (dk_at dksX12_minute_4 8 rfl rfl)
theorem dX12_minute_104 : decode cX12_minute 104 = .ok (.invokevirtual 46, 3) := dk_182 0 46 (dk_at dksX12_minute_4 10 rfl rfl)
theorem dX12_minute_107 : decode cX12_minute 107 = .ok (.pop, 1) := dk_87 (dk_at dksX12_minute_4 13 rfl rfl)
theorem dX12_minute_108 : decode cX12_minute 108 = .ok (.goto 17, 3) := dk_167 0 17 (dk_at dksX12_minute_4 14 rfl rfl)
theorem dX12_minute_111 : decode cX12_minute 111 = .ok (.aload_n 0, 1) := dk_42 (dk_at dksX12_minute_4 17 rfl rfl)
theorem dX12_minute_112 : decode cX12_minute 112 = .ok (.getfield 21, 3) := dk_180 0 21 (dk_at dksX12_minute_4 18 rfl rfl)
theorem dX12_minute_115 : decode cX12_minute 115 = .ok (.iload_n 2, 1) := dk_28 (dk_at dksX12_minute_4 21 rfl rfl)
theorem dX12_minute_116 : decode cX12_minute 116 = .ok (.aload 4, 2) := dk_25 4 (dk_at dksX12_minute_4 22 rfl rfl)
theorem dX12_minute_118 : decode cX12_minute 118 = .ok (.invokevirtual 343, 3) := dk_182 1 87 (dk_at dksX12_minute_5 0 rfl rfl)
theorem dX12_minute_121 : decode cX12_minute 121 = .ok (.pop, 1) := dk_87 (dk_at dksX12_minute_5 3 rfl rfl)
theorem dX12_minute_122 : decode cX12_minute 122 = .ok (.iinc 2 1, 3) := dk_132 2 1 (dk_at dksX12_minute_5 4 rfl rfl)
theorem dX12_minute_125 : decode cX12_minute 125 = .ok (.iinc 3 1, 3) := dk_132 3 1 (dk_at dksX12_minute_5 7 rfl rfl)
theorem dX12_minute_128 : decode cX12_minute 128 = .ok (.goto (-63), 3) := dk_167 255 193 (dk_at dksX12_minute_5 10 rfl rfl)
theorem dX12_minute_131 : decode cX12_minute 131 = .ok (.aload_n 0, 1) := dk_42 (dk_at dksX12_minute_5 13 rfl rfl)
theorem dX12_minute_132 : decode cX12_minute 132 = .ok (.getfield 21, 3) := dk_180 0 21 (dk_at dksX12_minute_5 14 rfl rfl)
theorem dX12_minute_135 : decode cX12_minute 135 = .ok (.invokevirtual 74, 3) := dk_182 0 74 (dk_at dksX12_minute_5 17 rfl rfl)
theorem dX12_minute_138 : decode cX12_minute 138 = .ok (.iload_n 2, 1) := dk_28 (dk_at dksX12_minute_5 20 rfl rfl)
theorem dX12_minute_139 : decode cX12_minute 139 = .ok (.if_icmp .le 23, 3) := dk_164 0 23 (dk_at dksX12_minute_5 21 rfl rfl)
theorem dX12_minute_142 : decode cX12_minute 142 = .ok (.aload_n 0, 1) := dk_42 (dk_at dksX12_minute_6 0 rfl rfl)
theorem dX12_minute_143 : decode cX12_minute 143 = .ok (.getfield 21, 3) := dk_180 0 21 (dk_at dksX12_minute_6 1 rfl rfl)
theorem dX12_minute_146 : decode cX12_minute 146 = .ok (.aload_n 0, 1) := dk_42 (dk_at dksX12_minute_6 4 rfl rfl)
theorem dX12_minute_147 : decode cX12_minute 147 = .ok (.getfield 21, 3) := dk_180 0 21 (dk_at dksX12_minute_6 5 rfl rfl)
theorem dX12_minute_150 : decode cX12_minute 150 = .ok (.invokevirtual 74, 3) := dk_182 0 74 (dk_at dksX12_minute_6 8 rfl rfl)
theorem dX12_minute_153 : decode cX12_minute 153 = .ok (.iconst 1, 1) := dk_4 (dk_at dksX12_minute_6 11 rfl rfl)
theorem dX12_minute_154 : decode cX12_minute 154 = .ok (.isub, 1) := dk_100 (dk_at dksX12_minute_6 12 rfl rfl)
theorem dX12_minute_155 : decode cX12_minute 155 = .ok (.invokevirtual 331, 3) := dk_182 1 75 (dk_at dksX12_minute_6 13 rfl rfl)
theorem dX12_minute_158 : decode cX12_minute 158 = .ok (.pop, 1) := dk_87 (dk_at dksX12_minute_6 16 rfl rfl)
theorem dX12_minute_159 : decode cX12_minute 159 = .ok (.goto (-28), 3) := dk_167 255 228 (dk_at dksX12_minute_6 17 rfl rfl)
theorem dX12_minute_162 : decode cX12_minute 162 = .ok (.iconst 0, 1) := dk_3 (dk_at dksX12_minute_6 20 rfl rfl)
theorem dX12_minute_163 : decode cX12_minute 163 = .ok (.istore_n 3, 1) := dk_62 (dk_at dksX12_minute_6 21 rfl rfl)
theorem dX12_minute_164 : decode cX12_minute 164 = .ok (.iload_n 3, 1) := dk_29 (dk_at dksX12_minute_6 22 rfl rfl)
theorem dX12_minute_165 : decode cX12_minute 165 = .ok (.aload_n 1, 1) := dk_43 (dk_at dksX12_minute_6 23 rfl rfl)
theorem dX12_minute_166 : decode cX12_minute 166 = .ok (.invokevirtual 74, 3) := dk_182 0 74 (dk_at dksX12_minute_7 0 rfl rfl)
theorem dX12_minute_169 : decode cX12_minute 169 = .ok (.if_icmp .ge 21, 3) := dk_162 0 21 (dk_at dksX12_minute_7 3 rfl rfl)
theorem dX12_minute_172 : decode cX12_minute 172 = .ok (.aload_n 0, 1) := dk_42 (dk_at dksX12_minute_7 6 rfl rfl)
theorem dX12_minute_173 : decode cX12_minute 173 = .ok (.aload_n 1, 1) := dk_43 (dk_at dksX12_minute_7 7 rfl rfl)
theorem dX12_minute_174 : decode cX12_minute 174 = .ok (.iload_n 3, 1) := dk_29 (dk_at dksX12_minute_7 8 rfl rfl)
theorem dX12_minute_175 : decode cX12_minute 175 = .ok (.invokevirtual 148, 3) := dk_182 0 148 (dk_at dksX12_minute_7 9 rfl rfl)
theorem dX12_minute_178 : decode cX12_minute 178 = .ok (.checkcast 82, 3) := dk_192 0 82 (dk_at dksX12_minute_7 12 rfl rfl)
theorem dX12_minute_181 : decode cX12_minute 181 = .ok (.invokevirtual 347, 3) := dk_182 1 91 (dk_at dksX12_minute_7 15 rfl rfl)
theorem dX12_minute_184 : decode cX12_minute 184 = .ok (.iinc 3 1, 3) := dk_132 3 1 (dk_at dksX12_minute_7 18 rfl rfl)
theorem dX12_minute_187 : decode cX12_minute 187 = .ok (.goto (-23), 3) := dk_167 255 233 (dk_at dksX12_minute_7 21 rfl rfl)
theorem dX12_minute_190 : decode cX12_minute 190 = .ok (.return_, 1) := dk_177 (dk_at dksX12_minute_8 0 rfl rfl)
abbrev cX12_runsOut : ByteArray := prog_9_method_21_code
def yX12_runsOut : MethodName := ⟨RX12, "runsOut", "(LAskedNames$Node;)V"⟩
def dkwX12_runsOut_5 : List UInt8 := [21, 5, 4, 188, 10, 89, 3, 6, 79, 182, 0, 102, 167, 255, 218, 167, 255, 128, 177]
abbrev dktX12_runsOut_5 : List UInt8 := dkwX12_runsOut_5 ++ []
def dkwX12_runsOut_4 : List UInt8 := [185, 0, 61, 1, 0, 153, 0, 34, 25, 4, 185, 0, 67, 1, 0, 192, 1, 50, 182, 1, 52, 54, 5, 42]
abbrev dktX12_runsOut_4 : List UInt8 := dkwX12_runsOut_4 ++ dktX12_runsOut_5
def dkwX12_runsOut_3 : List UInt8 := [180, 1, 11, 42, 180, 0, 34, 180, 0, 198, 79, 45, 180, 1, 47, 182, 0, 57, 58, 4, 25, 4]
abbrev dktX12_runsOut_3 : List UInt8 := dkwX12_runsOut_3 ++ dktX12_runsOut_4
def dkwX12_runsOut_2 : List UInt8 := [182, 1, 75, 87, 43, 89, 180, 0, 156, 45, 180, 0, 160, 129, 181, 0, 156, 43, 180, 0, 231, 45]
abbrev dktX12_runsOut_2 : List UInt8 := dkwX12_runsOut_2 ++ dktX12_runsOut_3
def dkwX12_runsOut_1 : List UInt8 := [78, 45, 180, 1, 73, 42, 180, 0, 78, 164, 0, 9, 132, 2, 1, 167, 255, 219, 43, 180, 0, 71, 28]
abbrev dktX12_runsOut_1 : List UInt8 := dkwX12_runsOut_1 ++ dktX12_runsOut_2
def dkwX12_runsOut_0 : List UInt8 := [3, 61, 28, 43, 180, 0, 71, 182, 0, 74, 162, 0, 123, 43, 180, 0, 71, 28, 182, 0, 148, 192, 0, 161]
abbrev dktX12_runsOut_0 : List UInt8 := dkwX12_runsOut_0 ++ dktX12_runsOut_1
theorem dksX12_runsOut_0 : cX12_runsOut.data.toList.drop 0 = dktX12_runsOut_0 := by decide +kernel
theorem dksX12_runsOut_1 : cX12_runsOut.data.toList.drop 24 = dktX12_runsOut_1 := dk_seg dksX12_runsOut_0 24 rfl rfl
theorem dksX12_runsOut_2 : cX12_runsOut.data.toList.drop 47 = dktX12_runsOut_2 := dk_seg dksX12_runsOut_1 23 rfl rfl
theorem dksX12_runsOut_3 : cX12_runsOut.data.toList.drop 69 = dktX12_runsOut_3 := dk_seg dksX12_runsOut_2 22 rfl rfl
theorem dksX12_runsOut_4 : cX12_runsOut.data.toList.drop 91 = dktX12_runsOut_4 := dk_seg dksX12_runsOut_3 22 rfl rfl
theorem dksX12_runsOut_5 : cX12_runsOut.data.toList.drop 115 = dktX12_runsOut_5 := dk_seg dksX12_runsOut_4 24 rfl rfl
theorem dX12_runsOut_0 : decode cX12_runsOut 0 = .ok (.iconst 0, 1) := dk_3 (dk_at dksX12_runsOut_0 0 rfl rfl)
theorem dX12_runsOut_1 : decode cX12_runsOut 1 = .ok (.istore_n 2, 1) := dk_61 (dk_at dksX12_runsOut_0 1 rfl rfl)
theorem dX12_runsOut_2 : decode cX12_runsOut 2 = .ok (.iload_n 2, 1) := dk_28 (dk_at dksX12_runsOut_0 2 rfl rfl)
theorem dX12_runsOut_3 : decode cX12_runsOut 3 = .ok (.aload_n 1, 1) := dk_43 (dk_at dksX12_runsOut_0 3 rfl rfl)
theorem dX12_runsOut_4 : decode cX12_runsOut 4 = .ok (.getfield 71, 3) := dk_180 0 71 (dk_at dksX12_runsOut_0 4 rfl rfl)
theorem dX12_runsOut_7 : decode cX12_runsOut 7 = .ok (.invokevirtual 74, 3) := dk_182 0 74 (dk_at dksX12_runsOut_0 7 rfl rfl)
theorem dX12_runsOut_10 : decode cX12_runsOut 10 = .ok (.if_icmp .ge 123, 3) := dk_162 0 123 (dk_at dksX12_runsOut_0 10 rfl rfl)
theorem dX12_runsOut_13 : decode cX12_runsOut 13 = .ok (.aload_n 1, 1) := dk_43 (dk_at dksX12_runsOut_0 13 rfl rfl)
theorem dX12_runsOut_14 : decode cX12_runsOut 14 = .ok (.getfield 71, 3) := dk_180 0 71 (dk_at dksX12_runsOut_0 14 rfl rfl)
theorem dX12_runsOut_17 : decode cX12_runsOut 17 = .ok (.iload_n 2, 1) := dk_28 (dk_at dksX12_runsOut_0 17 rfl rfl)
theorem dX12_runsOut_18 : decode cX12_runsOut 18 = .ok (.invokevirtual 148, 3) := dk_182 0 148 (dk_at dksX12_runsOut_0 18 rfl rfl)
theorem dX12_runsOut_21 : decode cX12_runsOut 21 = .ok (.checkcast 161, 3) := dk_192 0 161 (dk_at dksX12_runsOut_0 21 rfl rfl)
theorem dX12_runsOut_24 : decode cX12_runsOut 24 = .ok (.astore_n 3, 1) := dk_78 (dk_at dksX12_runsOut_1 0 rfl rfl)
theorem dX12_runsOut_25 : decode cX12_runsOut 25 = .ok (.aload_n 3, 1) := dk_45 (dk_at dksX12_runsOut_1 1 rfl rfl)
theorem dX12_runsOut_26 : decode cX12_runsOut 26 = .ok (.getfield 329, 3) := dk_180 1 73 (dk_at dksX12_runsOut_1 2 rfl rfl)
theorem dX12_runsOut_29 : decode cX12_runsOut 29 = .ok (.aload_n 0, 1) := dk_42 (dk_at dksX12_runsOut_1 5 rfl rfl)
theorem dX12_runsOut_30 : decode cX12_runsOut 30 = .ok (.getfield 78, 3) := dk_180 0 78 (dk_at dksX12_runsOut_1 6 rfl rfl)
theorem dX12_runsOut_33 : decode cX12_runsOut 33 = .ok (.if_icmp .le 9, 3) := dk_164 0 9 (dk_at dksX12_runsOut_1 9 rfl rfl)
theorem dX12_runsOut_36 : decode cX12_runsOut 36 = .ok (.iinc 2 1, 3) := dk_132 2 1 (dk_at dksX12_runsOut_1 12 rfl rfl)
theorem dX12_runsOut_39 : decode cX12_runsOut 39 = .ok (.goto (-37), 3) := dk_167 255 219 (dk_at dksX12_runsOut_1 15 rfl rfl)
theorem dX12_runsOut_42 : decode cX12_runsOut 42 = .ok (.aload_n 1, 1) := dk_43 (dk_at dksX12_runsOut_1 18 rfl rfl)
theorem dX12_runsOut_43 : decode cX12_runsOut 43 = .ok (.getfield 71, 3) := dk_180 0 71 (dk_at dksX12_runsOut_1 19 rfl rfl)
theorem dX12_runsOut_46 : decode cX12_runsOut 46 = .ok (.iload_n 2, 1) := dk_28 (dk_at dksX12_runsOut_1 22 rfl rfl)
theorem dX12_runsOut_47 : decode cX12_runsOut 47 = .ok (.invokevirtual 331, 3) := dk_182 1 75 (dk_at dksX12_runsOut_2 0 rfl rfl)
theorem dX12_runsOut_50 : decode cX12_runsOut 50 = .ok (.pop, 1) := dk_87 (dk_at dksX12_runsOut_2 3 rfl rfl)
theorem dX12_runsOut_51 : decode cX12_runsOut 51 = .ok (.aload_n 1, 1) := dk_43 (dk_at dksX12_runsOut_2 4 rfl rfl)
theorem dX12_runsOut_52 : decode cX12_runsOut 52 = .ok (.dup, 1) := dk_89 (dk_at dksX12_runsOut_2 5 rfl rfl)
theorem dX12_runsOut_53 : decode cX12_runsOut 53 = .ok (.getfield 156, 3) := dk_180 0 156 (dk_at dksX12_runsOut_2 6 rfl rfl)
theorem dX12_runsOut_56 : decode cX12_runsOut 56 = .ok (.aload_n 3, 1) := dk_45 (dk_at dksX12_runsOut_2 9 rfl rfl)
theorem dX12_runsOut_57 : decode cX12_runsOut 57 = .ok (.getfield 160, 3) := dk_180 0 160 (dk_at dksX12_runsOut_2 10 rfl rfl)
theorem dX12_runsOut_60 : decode cX12_runsOut 60 = .ok (.lor, 1) := dk_129 (dk_at dksX12_runsOut_2 13 rfl rfl)
theorem dX12_runsOut_61 : decode cX12_runsOut 61 = .ok (.putfield 156, 3) := dk_181 0 156 (dk_at dksX12_runsOut_2 14 rfl rfl)
theorem dX12_runsOut_64 : decode cX12_runsOut 64 = .ok (.aload_n 1, 1) := dk_43 (dk_at dksX12_runsOut_2 17 rfl rfl)
theorem dX12_runsOut_65 : decode cX12_runsOut 65 = .ok (.getfield 231, 3) := dk_180 0 231 (dk_at dksX12_runsOut_2 18 rfl rfl)
theorem dX12_runsOut_68 : decode cX12_runsOut 68 = .ok (.aload_n 3, 1) := dk_45 (dk_at dksX12_runsOut_2 21 rfl rfl)
theorem dX12_runsOut_69 : decode cX12_runsOut 69 = .ok (.getfield 267, 3) := dk_180 1 11 (dk_at dksX12_runsOut_3 0 rfl rfl)
theorem dX12_runsOut_72 : decode cX12_runsOut 72 = .ok (.aload_n 0, 1) := dk_42 (dk_at dksX12_runsOut_3 3 rfl rfl)
theorem dX12_runsOut_73 : decode cX12_runsOut 73 = .ok (.getfield 34, 3) := dk_180 0 34 (dk_at dksX12_runsOut_3 4 rfl rfl)
theorem dX12_runsOut_76 : decode cX12_runsOut 76 = .ok (.getfield 198, 3) := dk_180 0 198 (dk_at dksX12_runsOut_3 7 rfl rfl)
theorem dX12_runsOut_79 : decode cX12_runsOut 79 = .ok (.iastore, 1) := dk_79 (dk_at dksX12_runsOut_3 10 rfl rfl)
theorem dX12_runsOut_80 : decode cX12_runsOut 80 = .ok (.aload_n 3, 1) := dk_45 (dk_at dksX12_runsOut_3 11 rfl rfl)
theorem dX12_runsOut_81 : decode cX12_runsOut 81 = .ok (.getfield 303, 3) := dk_180 1 47 (dk_at dksX12_runsOut_3 12 rfl rfl)
theorem dX12_runsOut_84 : decode cX12_runsOut 84 = .ok (.invokevirtual 57, 3) := dk_182 0 57 (dk_at dksX12_runsOut_3 15 rfl rfl)
theorem dX12_runsOut_87 : decode cX12_runsOut 87 = .ok (.astore 4, 2) := dk_58 4 (dk_at dksX12_runsOut_3 18 rfl rfl)
theorem dX12_runsOut_89 : decode cX12_runsOut 89 = .ok (.aload 4, 2) := dk_25 4 (dk_at dksX12_runsOut_3 20 rfl rfl)
theorem dX12_runsOut_91 : decode cX12_runsOut 91 = .ok (.invokeinterface 61 1, 5) := by decide +kernel
theorem dX12_runsOut_96 : decode cX12_runsOut 96 = .ok (.ifCond .eq 34, 3) := dk_153 0 34 (dk_at dksX12_runsOut_4 5 rfl rfl)
theorem dX12_runsOut_99 : decode cX12_runsOut 99 = .ok (.aload 4, 2) := dk_25 4 (dk_at dksX12_runsOut_4 8 rfl rfl)
theorem dX12_runsOut_101 : decode cX12_runsOut 101 = .ok (.invokeinterface 67 1, 5) := by decide +kernel
theorem dX12_runsOut_106 : decode cX12_runsOut 106 = .ok (.checkcast 306, 3) := dk_192 1 50 (dk_at dksX12_runsOut_4 15 rfl rfl)
theorem dX12_runsOut_109 : decode cX12_runsOut 109 = .ok (.invokevirtual 308, 3) := dk_182 1 52 (dk_at dksX12_runsOut_4 18 rfl rfl)
theorem dX12_runsOut_112 : decode cX12_runsOut 112 = .ok (.istore 5, 2) := dk_54 5 (dk_at dksX12_runsOut_4 21 rfl rfl)
theorem dX12_runsOut_114 : decode cX12_runsOut 114 = .ok (.aload_n 0, 1) := dk_42 (dk_at dksX12_runsOut_4 23 rfl rfl)
theorem dX12_runsOut_115 : decode cX12_runsOut 115 = .ok (.iload 5, 2) := dk_21 5 (dk_at dksX12_runsOut_5 0 rfl rfl)
theorem dX12_runsOut_117 : decode cX12_runsOut 117 = .ok (.iconst 1, 1) := dk_4 (dk_at dksX12_runsOut_5 2 rfl rfl)
theorem dX12_runsOut_118 : decode cX12_runsOut 118 = .ok (.newarray .int, 2) := dk_188_10 (dk_at dksX12_runsOut_5 3 rfl rfl)
theorem dX12_runsOut_120 : decode cX12_runsOut 120 = .ok (.dup, 1) := dk_89 (dk_at dksX12_runsOut_5 5 rfl rfl)
theorem dX12_runsOut_121 : decode cX12_runsOut 121 = .ok (.iconst 0, 1) := dk_3 (dk_at dksX12_runsOut_5 6 rfl rfl)
theorem dX12_runsOut_122 : decode cX12_runsOut 122 = .ok (.iconst 3, 1) := dk_6 (dk_at dksX12_runsOut_5 7 rfl rfl)
theorem dX12_runsOut_123 : decode cX12_runsOut 123 = .ok (.iastore, 1) := dk_79 (dk_at dksX12_runsOut_5 8 rfl rfl)
theorem dX12_runsOut_124 : decode cX12_runsOut 124 = .ok (.invokevirtual 102, 3) := dk_182 0 102 (dk_at dksX12_runsOut_5 9 rfl rfl)
theorem dX12_runsOut_127 : decode cX12_runsOut 127 = .ok (.goto (-38), 3) := dk_167 255 218 (dk_at dksX12_runsOut_5 12 rfl rfl)
theorem dX12_runsOut_130 : decode cX12_runsOut 130 = .ok (.goto (-128), 3) := dk_167 255 128 (dk_at dksX12_runsOut_5 15 rfl rfl)
theorem dX12_runsOut_133 : decode cX12_runsOut 133 = .ok (.return_, 1) := dk_177 (dk_at dksX12_runsOut_5 18 rfl rfl)
abbrev cX12_doesComeNow : ByteArray := prog_9_method_23_code
def yX12_doesComeNow : MethodName := ⟨RX12, "doesComeNow", "()Z"⟩
def dkwX12_doesComeNow_1 : List UInt8 := [180, 1, 85, 42, 180, 0, 78, 160, 0, 5, 4, 172, 132, 1, 1, 167, 255, 219, 3, 172]
abbrev dktX12_doesComeNow_1 : List UInt8 := dkwX12_doesComeNow_1 ++ []
def dkwX12_doesComeNow_0 : List UInt8 := [3, 60, 27, 42, 180, 0, 21, 182, 0, 74, 162, 0, 32, 42, 180, 0, 21, 27, 182, 0, 148, 192, 0, 82]
abbrev dktX12_doesComeNow_0 : List UInt8 := dkwX12_doesComeNow_0 ++ dktX12_doesComeNow_1
theorem dksX12_doesComeNow_0 : cX12_doesComeNow.data.toList.drop 0 = dktX12_doesComeNow_0 := by decide +kernel
theorem dksX12_doesComeNow_1 : cX12_doesComeNow.data.toList.drop 24 = dktX12_doesComeNow_1 := dk_seg dksX12_doesComeNow_0 24 rfl rfl
theorem dX12_doesComeNow_0 : decode cX12_doesComeNow 0 = .ok (.iconst 0, 1) := dk_3 (dk_at dksX12_doesComeNow_0 0 rfl rfl)
theorem dX12_doesComeNow_1 : decode cX12_doesComeNow 1 = .ok (.istore_n 1, 1) := dk_60 (dk_at dksX12_doesComeNow_0 1 rfl rfl)
theorem dX12_doesComeNow_2 : decode cX12_doesComeNow 2 = .ok (.iload_n 1, 1) := dk_27 (dk_at dksX12_doesComeNow_0 2 rfl rfl)
theorem dX12_doesComeNow_3 : decode cX12_doesComeNow 3 = .ok (.aload_n 0, 1) := dk_42 (dk_at dksX12_doesComeNow_0 3 rfl rfl)
theorem dX12_doesComeNow_4 : decode cX12_doesComeNow 4 = .ok (.getfield 21, 3) := dk_180 0 21 (dk_at dksX12_doesComeNow_0 4 rfl rfl)
theorem dX12_doesComeNow_7 : decode cX12_doesComeNow 7 = .ok (.invokevirtual 74, 3) := dk_182 0 74 (dk_at dksX12_doesComeNow_0 7 rfl rfl)
theorem dX12_doesComeNow_10 : decode cX12_doesComeNow 10 = .ok (.if_icmp .ge 32, 3) := dk_162 0 32 (dk_at dksX12_doesComeNow_0 10 rfl rfl)
theorem dX12_doesComeNow_13 : decode cX12_doesComeNow 13 = .ok (.aload_n 0, 1) := dk_42 (dk_at dksX12_doesComeNow_0 13 rfl rfl)
theorem dX12_doesComeNow_14 : decode cX12_doesComeNow 14 = .ok (.getfield 21, 3) := dk_180 0 21 (dk_at dksX12_doesComeNow_0 14 rfl rfl)
theorem dX12_doesComeNow_17 : decode cX12_doesComeNow 17 = .ok (.iload_n 1, 1) := dk_27 (dk_at dksX12_doesComeNow_0 17 rfl rfl)
theorem dX12_doesComeNow_18 : decode cX12_doesComeNow 18 = .ok (.invokevirtual 148, 3) := dk_182 0 148 (dk_at dksX12_doesComeNow_0 18 rfl rfl)
theorem dX12_doesComeNow_21 : decode cX12_doesComeNow 21 = .ok (.checkcast 82, 3) := dk_192 0 82 (dk_at dksX12_doesComeNow_0 21 rfl rfl)
theorem dX12_doesComeNow_24 : decode cX12_doesComeNow 24 = .ok (.getfield 341, 3) := dk_180 1 85 (dk_at dksX12_doesComeNow_1 0 rfl rfl)
theorem dX12_doesComeNow_27 : decode cX12_doesComeNow 27 = .ok (.aload_n 0, 1) := dk_42 (dk_at dksX12_doesComeNow_1 3 rfl rfl)
theorem dX12_doesComeNow_28 : decode cX12_doesComeNow 28 = .ok (.getfield 78, 3) := dk_180 0 78 (dk_at dksX12_doesComeNow_1 4 rfl rfl)
theorem dX12_doesComeNow_31 : decode cX12_doesComeNow 31 = .ok (.if_icmp .ne 5, 3) := dk_160 0 5 (dk_at dksX12_doesComeNow_1 7 rfl rfl)
theorem dX12_doesComeNow_34 : decode cX12_doesComeNow 34 = .ok (.iconst 1, 1) := dk_4 (dk_at dksX12_doesComeNow_1 10 rfl rfl)
theorem dX12_doesComeNow_35 : decode cX12_doesComeNow 35 = .ok (.ireturn, 1) := dk_172 (dk_at dksX12_doesComeNow_1 11 rfl rfl)
theorem dX12_doesComeNow_36 : decode cX12_doesComeNow 36 = .ok (.iinc 1 1, 3) := dk_132 1 1 (dk_at dksX12_doesComeNow_1 12 rfl rfl)
theorem dX12_doesComeNow_39 : decode cX12_doesComeNow 39 = .ok (.goto (-37), 3) := dk_167 255 219 (dk_at dksX12_doesComeNow_1 15 rfl rfl)
theorem dX12_doesComeNow_42 : decode cX12_doesComeNow 42 = .ok (.iconst 0, 1) := dk_3 (dk_at dksX12_doesComeNow_1 18 rfl rfl)
theorem dX12_doesComeNow_43 : decode cX12_doesComeNow 43 = .ok (.ireturn, 1) := dk_172 (dk_at dksX12_doesComeNow_1 19 rfl rfl)
abbrev cX12_comes : ByteArray := prog_9_method_20_code
def yX12_comes : MethodName := ⟨RX12, "comes", "(LAskedNames$Message;)V"⟩
def dkwX12_comes_2 : List UInt8 := [43, 180, 1, 55, 43, 180, 1, 56, 43, 180, 1, 68, 182, 1, 71, 177]
abbrev dktX12_comes_2 : List UInt8 := dkwX12_comes_2 ++ []
def dkwX12_comes_1 : List UInt8 := [198, 0, 15, 42, 43, 180, 0, 86, 43, 182, 1, 65, 167, 0, 27, 42, 43, 180, 0, 86, 43, 180, 0, 81]
abbrev dktX12_comes_1 : List UInt8 := dkwX12_comes_1 ++ dktX12_comes_2
def dkwX12_comes_0 : List UInt8 := [43, 180, 1, 21, 198, 0, 15, 42, 43, 180, 0, 86, 43, 182, 1, 61, 167, 0, 46, 43, 180, 1, 57]
abbrev dktX12_comes_0 : List UInt8 := dkwX12_comes_0 ++ dktX12_comes_1
theorem dksX12_comes_0 : cX12_comes.data.toList.drop 0 = dktX12_comes_0 := by decide +kernel
theorem dksX12_comes_1 : cX12_comes.data.toList.drop 23 = dktX12_comes_1 := dk_seg dksX12_comes_0 23 rfl rfl
theorem dksX12_comes_2 : cX12_comes.data.toList.drop 47 = dktX12_comes_2 := dk_seg dksX12_comes_1 24 rfl rfl
theorem dX12_comes_0 : decode cX12_comes 0 = .ok (.aload_n 1, 1) := dk_43 (dk_at dksX12_comes_0 0 rfl rfl)
theorem dX12_comes_1 : decode cX12_comes 1 = .ok (.getfield 277, 3) := dk_180 1 21 (dk_at dksX12_comes_0 1 rfl rfl)
theorem dX12_comes_4 : decode cX12_comes 4 = .ok (.ifnull 15, 3) := dk_198 0 15 (dk_at dksX12_comes_0 4 rfl rfl)
theorem dX12_comes_7 : decode cX12_comes 7 = .ok (.aload_n 0, 1) := dk_42 (dk_at dksX12_comes_0 7 rfl rfl)
theorem dX12_comes_8 : decode cX12_comes 8 = .ok (.aload_n 1, 1) := dk_43 (dk_at dksX12_comes_0 8 rfl rfl)
theorem dX12_comes_9 : decode cX12_comes 9 = .ok (.getfield 86, 3) := dk_180 0 86 (dk_at dksX12_comes_0 9 rfl rfl)
theorem dX12_comes_12 : decode cX12_comes 12 = .ok (.aload_n 1, 1) := dk_43 (dk_at dksX12_comes_0 12 rfl rfl)
theorem dX12_comes_13 : decode cX12_comes 13 = .ok (.invokevirtual 317, 3) := dk_182 1 61 (dk_at dksX12_comes_0 13 rfl rfl)
theorem dX12_comes_16 : decode cX12_comes 16 = .ok (.goto 46, 3) := dk_167 0 46 (dk_at dksX12_comes_0 16 rfl rfl)
theorem dX12_comes_19 : decode cX12_comes 19 = .ok (.aload_n 1, 1) := dk_43 (dk_at dksX12_comes_0 19 rfl rfl)
theorem dX12_comes_20 : decode cX12_comes 20 = .ok (.getfield 313, 3) := dk_180 1 57 (dk_at dksX12_comes_0 20 rfl rfl)
theorem dX12_comes_23 : decode cX12_comes 23 = .ok (.ifnull 15, 3) := dk_198 0 15 (dk_at dksX12_comes_1 0 rfl rfl)
theorem dX12_comes_26 : decode cX12_comes 26 = .ok (.aload_n 0, 1) := dk_42 (dk_at dksX12_comes_1 3 rfl rfl)
theorem dX12_comes_27 : decode cX12_comes 27 = .ok (.aload_n 1, 1) := dk_43 (dk_at dksX12_comes_1 4 rfl rfl)
theorem dX12_comes_28 : decode cX12_comes 28 = .ok (.getfield 86, 3) := dk_180 0 86 (dk_at dksX12_comes_1 5 rfl rfl)
theorem dX12_comes_31 : decode cX12_comes 31 = .ok (.aload_n 1, 1) := dk_43 (dk_at dksX12_comes_1 8 rfl rfl)
theorem dX12_comes_32 : decode cX12_comes 32 = .ok (.invokevirtual 321, 3) := dk_182 1 65 (dk_at dksX12_comes_1 9 rfl rfl)
theorem dX12_comes_35 : decode cX12_comes 35 = .ok (.goto 27, 3) := dk_167 0 27 (dk_at dksX12_comes_1 12 rfl rfl)
theorem dX12_comes_38 : decode cX12_comes 38 = .ok (.aload_n 0, 1) := dk_42 (dk_at dksX12_comes_1 15 rfl rfl)
theorem dX12_comes_39 : decode cX12_comes 39 = .ok (.aload_n 1, 1) := dk_43 (dk_at dksX12_comes_1 16 rfl rfl)
theorem dX12_comes_40 : decode cX12_comes 40 = .ok (.getfield 86, 3) := dk_180 0 86 (dk_at dksX12_comes_1 17 rfl rfl)
theorem dX12_comes_43 : decode cX12_comes 43 = .ok (.aload_n 1, 1) := dk_43 (dk_at dksX12_comes_1 20 rfl rfl)
theorem dX12_comes_44 : decode cX12_comes 44 = .ok (.getfield 81, 3) := dk_180 0 81 (dk_at dksX12_comes_1 21 rfl rfl)
theorem dX12_comes_47 : decode cX12_comes 47 = .ok (.aload_n 1, 1) := dk_43 (dk_at dksX12_comes_2 0 rfl rfl)
theorem dX12_comes_48 : decode cX12_comes 48 = .ok (.getfield 311, 3) := dk_180 1 55 (dk_at dksX12_comes_2 1 rfl rfl)
theorem dX12_comes_51 : decode cX12_comes 51 = .ok (.aload_n 1, 1) := dk_43 (dk_at dksX12_comes_2 4 rfl rfl)
theorem dX12_comes_52 : decode cX12_comes 52 = .ok (.getfield 312, 3) := dk_180 1 56 (dk_at dksX12_comes_2 5 rfl rfl)
theorem dX12_comes_55 : decode cX12_comes 55 = .ok (.aload_n 1, 1) := dk_43 (dk_at dksX12_comes_2 8 rfl rfl)
theorem dX12_comes_56 : decode cX12_comes 56 = .ok (.getfield 324, 3) := dk_180 1 68 (dk_at dksX12_comes_2 9 rfl rfl)
theorem dX12_comes_59 : decode cX12_comes 59 = .ok (.invokevirtual 327, 3) := dk_182 1 71 (dk_at dksX12_comes_2 12 rfl rfl)
theorem dX12_comes_62 : decode cX12_comes 62 = .ok (.return_, 1) := dk_177 (dk_at dksX12_comes_2 15 rfl rfl)
abbrev cX12_gets : ByteArray := prog_9_method_18_code
def yX12_gets : MethodName := ⟨RX12, "gets", "(ILAskedNames$Message;)V"⟩
def dkwX12_gets_14 : List UInt8 := [27, 2, 21, 8, 44, 180, 1, 21, 44, 180, 1, 44, 182, 0, 180, 167, 255, 215, 167, 255, 110, 177]
abbrev dktX12_gets_14 : List UInt8 := dkwX12_gets_14 ++ []
def dkwX12_gets_13 : List UInt8 := [185, 0, 61, 1, 0, 153, 0, 37, 25, 7, 185, 0, 67, 1, 0, 192, 1, 50, 182, 1, 52, 54, 8, 42]
abbrev dktX12_gets_13 : List UInt8 := dkwX12_gets_13 ++ dktX12_gets_14
def dkwX12_gets_12 : List UInt8 := [182, 0, 180, 132, 7, 1, 167, 255, 212, 25, 6, 180, 1, 47, 182, 0, 57, 58, 7, 25, 7]
abbrev dktX12_gets_12 : List UInt8 := dkwX12_gets_12 ++ dktX12_gets_13
def dkwX12_gets_11 : List UInt8 := [180, 1, 0, 21, 7, 184, 0, 228, 153, 0, 19, 42, 27, 21, 7, 2, 44, 180, 1, 21, 44, 180, 1, 44]
abbrev dktX12_gets_11 : List UInt8 := dkwX12_gets_11 ++ dktX12_gets_12
def dkwX12_gets_10 : List UInt8 := [180, 0, 160, 129, 181, 0, 156, 3, 54, 7, 21, 7, 42, 180, 0, 34, 180, 0, 38, 162, 0, 38, 25, 6]
abbrev dktX12_gets_10 : List UInt8 := dkwX12_gets_10 ++ dktX12_gets_11
def dkwX12_gets_9 : List UInt8 := [185, 0, 67, 1, 0, 192, 0, 161, 58, 6, 45, 25, 6, 182, 1, 6, 45, 89, 180, 0, 156, 25, 6]
abbrev dktX12_gets_9 : List UInt8 := dkwX12_gets_9 ++ dktX12_gets_10
def dkwX12_gets_8 : List UInt8 := [182, 1, 40, 25, 4, 182, 0, 57, 58, 5, 25, 5, 185, 0, 61, 1, 0, 153, 0, 142, 25, 5]
abbrev dktX12_gets_8 : List UInt8 := dkwX12_gets_8 ++ dktX12_gets_9
def dkwX12_gets_7 : List UInt8 := [192, 0, 161, 180, 1, 14, 100, 79, 45, 44, 180, 1, 21, 42, 180, 0, 34, 180, 1, 37, 27, 46]
abbrev dktX12_gets_7 : List UInt8 := dkwX12_gets_7 ++ dktX12_gets_8
def dkwX12_gets_6 : List UInt8 := [180, 0, 81, 160, 0, 29, 45, 180, 0, 231, 44, 180, 0, 81, 42, 180, 0, 78, 25, 4, 3, 182, 0, 148]
abbrev dktX12_gets_6 : List UInt8 := dkwX12_gets_6 ++ dktX12_gets_7
def dkwX12_gets_5 : List UInt8 := [180, 1, 34, 4, 96, 181, 1, 34, 177, 25, 4, 3, 182, 0, 148, 192, 0, 161, 180, 1, 11, 44]
abbrev dktX12_gets_5 : List UInt8 := dkwX12_gets_5 ++ dktX12_gets_6
def dkwX12_gets_4 : List UInt8 := [25, 6, 182, 0, 46, 87, 132, 5, 1, 167, 255, 179, 25, 4, 182, 1, 31, 153, 0, 14, 42, 89]
abbrev dktX12_gets_4 : List UInt8 := dkwX12_gets_4 ++ dktX12_gets_5
def dkwX12_gets_3 : List UInt8 := [25, 6, 180, 1, 15, 153, 0, 17, 44, 180, 1, 21, 180, 1, 28, 42, 180, 0, 78, 161, 0, 11, 25, 4]
abbrev dktX12_gets_3 : List UInt8 := dkwX12_gets_3 ++ dktX12_gets_4
def dkwX12_gets_2 : List UInt8 := [192, 0, 161, 58, 6, 25, 6, 180, 0, 255, 44, 180, 1, 21, 180, 0, 109, 182, 1, 25, 153, 0, 33]
abbrev dktX12_gets_2 : List UInt8 := dkwX12_gets_2 ++ dktX12_gets_3
def dkwX12_gets_1 : List UInt8 := [54, 5, 21, 5, 45, 180, 0, 71, 182, 0, 74, 162, 0, 71, 45, 180, 0, 71, 21, 5, 182, 0, 148]
abbrev dktX12_gets_1 : List UInt8 := dkwX12_gets_1 ++ dktX12_gets_2
def dkwX12_gets_0 : List UInt8 := [42, 180, 0, 14, 27, 182, 0, 148, 192, 0, 43, 78, 187, 0, 9, 89, 5, 183, 0, 11, 58, 4, 3]
abbrev dktX12_gets_0 : List UInt8 := dkwX12_gets_0 ++ dktX12_gets_1
theorem dksX12_gets_0 : cX12_gets.data.toList.drop 0 = dktX12_gets_0 := by decide +kernel
theorem dksX12_gets_1 : cX12_gets.data.toList.drop 23 = dktX12_gets_1 := dk_seg dksX12_gets_0 23 rfl rfl
theorem dksX12_gets_2 : cX12_gets.data.toList.drop 46 = dktX12_gets_2 := dk_seg dksX12_gets_1 23 rfl rfl
theorem dksX12_gets_3 : cX12_gets.data.toList.drop 69 = dktX12_gets_3 := dk_seg dksX12_gets_2 23 rfl rfl
theorem dksX12_gets_4 : cX12_gets.data.toList.drop 93 = dktX12_gets_4 := dk_seg dksX12_gets_3 24 rfl rfl
theorem dksX12_gets_5 : cX12_gets.data.toList.drop 115 = dktX12_gets_5 := dk_seg dksX12_gets_4 22 rfl rfl
theorem dksX12_gets_6 : cX12_gets.data.toList.drop 137 = dktX12_gets_6 := dk_seg dksX12_gets_5 22 rfl rfl
theorem dksX12_gets_7 : cX12_gets.data.toList.drop 161 = dktX12_gets_7 := dk_seg dksX12_gets_6 24 rfl rfl
theorem dksX12_gets_8 : cX12_gets.data.toList.drop 183 = dktX12_gets_8 := dk_seg dksX12_gets_7 22 rfl rfl
theorem dksX12_gets_9 : cX12_gets.data.toList.drop 205 = dktX12_gets_9 := dk_seg dksX12_gets_8 22 rfl rfl
theorem dksX12_gets_10 : cX12_gets.data.toList.drop 228 = dktX12_gets_10 := dk_seg dksX12_gets_9 23 rfl rfl
theorem dksX12_gets_11 : cX12_gets.data.toList.drop 252 = dktX12_gets_11 := dk_seg dksX12_gets_10 24 rfl rfl
theorem dksX12_gets_12 : cX12_gets.data.toList.drop 276 = dktX12_gets_12 := dk_seg dksX12_gets_11 24 rfl rfl
theorem dksX12_gets_13 : cX12_gets.data.toList.drop 297 = dktX12_gets_13 := dk_seg dksX12_gets_12 21 rfl rfl
theorem dksX12_gets_14 : cX12_gets.data.toList.drop 321 = dktX12_gets_14 := dk_seg dksX12_gets_13 24 rfl rfl
theorem dX12_gets_0 : decode cX12_gets 0 = .ok (.aload_n 0, 1) := dk_42 (dk_at dksX12_gets_0 0 rfl rfl)
theorem dX12_gets_1 : decode cX12_gets 1 = .ok (.getfield 14, 3) := dk_180 0 14 (dk_at dksX12_gets_0 1 rfl rfl)
theorem dX12_gets_4 : decode cX12_gets 4 = .ok (.iload_n 1, 1) := dk_27 (dk_at dksX12_gets_0 4 rfl rfl)
theorem dX12_gets_5 : decode cX12_gets 5 = .ok (.invokevirtual 148, 3) := dk_182 0 148 (dk_at dksX12_gets_0 5 rfl rfl)
theorem dX12_gets_8 : decode cX12_gets 8 = .ok (.checkcast 43, 3) := dk_192 0 43 (dk_at dksX12_gets_0 8 rfl rfl)
theorem dX12_gets_11 : decode cX12_gets 11 = .ok (.astore_n 3, 1) := dk_78 (dk_at dksX12_gets_0 11 rfl rfl)
theorem dX12_gets_12 : decode cX12_gets 12 = .ok (.new 9, 3) := dk_187 0 9 (dk_at dksX12_gets_0 12 rfl rfl)
theorem dX12_gets_15 : decode cX12_gets 15 = .ok (.dup, 1) := dk_89 (dk_at dksX12_gets_0 15 rfl rfl)
theorem dX12_gets_16 : decode cX12_gets 16 = .ok (.iconst 2, 1) := dk_5 (dk_at dksX12_gets_0 16 rfl rfl)
theorem dX12_gets_17 : decode cX12_gets 17 = .ok (.invokespecial 11, 3) := dk_183 0 11 (dk_at dksX12_gets_0 17 rfl rfl)
theorem dX12_gets_20 : decode cX12_gets 20 = .ok (.astore 4, 2) := dk_58 4 (dk_at dksX12_gets_0 20 rfl rfl)
theorem dX12_gets_22 : decode cX12_gets 22 = .ok (.iconst 0, 1) := dk_3 (dk_at dksX12_gets_0 22 rfl rfl)
theorem dX12_gets_23 : decode cX12_gets 23 = .ok (.istore 5, 2) := dk_54 5 (dk_at dksX12_gets_1 0 rfl rfl)
theorem dX12_gets_25 : decode cX12_gets 25 = .ok (.iload 5, 2) := dk_21 5 (dk_at dksX12_gets_1 2 rfl rfl)
theorem dX12_gets_27 : decode cX12_gets 27 = .ok (.aload_n 3, 1) := dk_45 (dk_at dksX12_gets_1 4 rfl rfl)
theorem dX12_gets_28 : decode cX12_gets 28 = .ok (.getfield 71, 3) := dk_180 0 71 (dk_at dksX12_gets_1 5 rfl rfl)
theorem dX12_gets_31 : decode cX12_gets 31 = .ok (.invokevirtual 74, 3) := dk_182 0 74 (dk_at dksX12_gets_1 8 rfl rfl)
theorem dX12_gets_34 : decode cX12_gets 34 = .ok (.if_icmp .ge 71, 3) := dk_162 0 71 (dk_at dksX12_gets_1 11 rfl rfl)
theorem dX12_gets_37 : decode cX12_gets 37 = .ok (.aload_n 3, 1) := dk_45 (dk_at dksX12_gets_1 14 rfl rfl)
theorem dX12_gets_38 : decode cX12_gets 38 = .ok (.getfield 71, 3) := dk_180 0 71 (dk_at dksX12_gets_1 15 rfl rfl)
theorem dX12_gets_41 : decode cX12_gets 41 = .ok (.iload 5, 2) := dk_21 5 (dk_at dksX12_gets_1 18 rfl rfl)
theorem dX12_gets_43 : decode cX12_gets 43 = .ok (.invokevirtual 148, 3) := dk_182 0 148 (dk_at dksX12_gets_1 20 rfl rfl)
theorem dX12_gets_46 : decode cX12_gets 46 = .ok (.checkcast 161, 3) := dk_192 0 161 (dk_at dksX12_gets_2 0 rfl rfl)
theorem dX12_gets_49 : decode cX12_gets 49 = .ok (.astore 6, 2) := dk_58 6 (dk_at dksX12_gets_2 3 rfl rfl)
theorem dX12_gets_51 : decode cX12_gets 51 = .ok (.aload 6, 2) := dk_25 6 (dk_at dksX12_gets_2 5 rfl rfl)
theorem dX12_gets_53 : decode cX12_gets 53 = .ok (.getfield 255, 3) := dk_180 0 255 (dk_at dksX12_gets_2 7 rfl rfl)
theorem dX12_gets_56 : decode cX12_gets 56 = .ok (.aload_n 2, 1) := dk_44 (dk_at dksX12_gets_2 10 rfl rfl)
theorem dX12_gets_57 : decode cX12_gets 57 = .ok (.getfield 277, 3) := dk_180 1 21 (dk_at dksX12_gets_2 11 rfl rfl)
theorem dX12_gets_60 : decode cX12_gets 60 = .ok (.getfield 109, 3) := dk_180 0 109 (dk_at dksX12_gets_2 14 rfl rfl)
theorem dX12_gets_63 : decode cX12_gets 63 = .ok (.invokevirtual 281, 3) := dk_182 1 25 (dk_at dksX12_gets_2 17 rfl rfl)
theorem dX12_gets_66 : decode cX12_gets 66 = .ok (.ifCond .eq 33, 3) := dk_153 0 33 (dk_at dksX12_gets_2 20 rfl rfl)
theorem dX12_gets_69 : decode cX12_gets 69 = .ok (.aload 6, 2) := dk_25 6 (dk_at dksX12_gets_3 0 rfl rfl)
theorem dX12_gets_71 : decode cX12_gets 71 = .ok (.getfield 271, 3) := dk_180 1 15 (dk_at dksX12_gets_3 2 rfl rfl)
theorem dX12_gets_74 : decode cX12_gets 74 = .ok (.ifCond .eq 17, 3) := dk_153 0 17 (dk_at dksX12_gets_3 5 rfl rfl)
theorem dX12_gets_77 : decode cX12_gets 77 = .ok (.aload_n 2, 1) := dk_44 (dk_at dksX12_gets_3 8 rfl rfl)
theorem dX12_gets_78 : decode cX12_gets 78 = .ok (.getfield 277, 3) := dk_180 1 21 (dk_at dksX12_gets_3 9 rfl rfl)
theorem dX12_gets_81 : decode cX12_gets 81 = .ok (.getfield 284, 3) := dk_180 1 28 (dk_at dksX12_gets_3 12 rfl rfl)
theorem dX12_gets_84 : decode cX12_gets 84 = .ok (.aload_n 0, 1) := dk_42 (dk_at dksX12_gets_3 15 rfl rfl)
theorem dX12_gets_85 : decode cX12_gets 85 = .ok (.getfield 78, 3) := dk_180 0 78 (dk_at dksX12_gets_3 16 rfl rfl)
theorem dX12_gets_88 : decode cX12_gets 88 = .ok (.if_icmp .lt 11, 3) := dk_161 0 11 (dk_at dksX12_gets_3 19 rfl rfl)
theorem dX12_gets_91 : decode cX12_gets 91 = .ok (.aload 4, 2) := dk_25 4 (dk_at dksX12_gets_3 22 rfl rfl)
theorem dX12_gets_93 : decode cX12_gets 93 = .ok (.aload 6, 2) := dk_25 6 (dk_at dksX12_gets_4 0 rfl rfl)
theorem dX12_gets_95 : decode cX12_gets 95 = .ok (.invokevirtual 46, 3) := dk_182 0 46 (dk_at dksX12_gets_4 2 rfl rfl)
theorem dX12_gets_98 : decode cX12_gets 98 = .ok (.pop, 1) := dk_87 (dk_at dksX12_gets_4 5 rfl rfl)
theorem dX12_gets_99 : decode cX12_gets 99 = .ok (.iinc 5 1, 3) := dk_132 5 1 (dk_at dksX12_gets_4 6 rfl rfl)
theorem dX12_gets_102 : decode cX12_gets 102 = .ok (.goto (-77), 3) := dk_167 255 179 (dk_at dksX12_gets_4 9 rfl rfl)
theorem dX12_gets_105 : decode cX12_gets 105 = .ok (.aload 4, 2) := dk_25 4 (dk_at dksX12_gets_4 12 rfl rfl)
theorem dX12_gets_107 : decode cX12_gets 107 = .ok (.invokevirtual 287, 3) := dk_182 1 31 (dk_at dksX12_gets_4 14 rfl rfl)
theorem dX12_gets_110 : decode cX12_gets 110 = .ok (.ifCond .eq 14, 3) := dk_153 0 14 (dk_at dksX12_gets_4 17 rfl rfl)
theorem dX12_gets_113 : decode cX12_gets 113 = .ok (.aload_n 0, 1) := dk_42 (dk_at dksX12_gets_4 20 rfl rfl)
theorem dX12_gets_114 : decode cX12_gets 114 = .ok (.dup, 1) := dk_89 (dk_at dksX12_gets_4 21 rfl rfl)
theorem dX12_gets_115 : decode cX12_gets 115 = .ok (.getfield 290, 3) := dk_180 1 34 (dk_at dksX12_gets_5 0 rfl rfl)
theorem dX12_gets_118 : decode cX12_gets 118 = .ok (.iconst 1, 1) := dk_4 (dk_at dksX12_gets_5 3 rfl rfl)
theorem dX12_gets_119 : decode cX12_gets 119 = .ok (.iadd, 1) := dk_96 (dk_at dksX12_gets_5 4 rfl rfl)
theorem dX12_gets_120 : decode cX12_gets 120 = .ok (.putfield 290, 3) := dk_181 1 34 (dk_at dksX12_gets_5 5 rfl rfl)
theorem dX12_gets_123 : decode cX12_gets 123 = .ok (.return_, 1) := dk_177 (dk_at dksX12_gets_5 8 rfl rfl)
theorem dX12_gets_124 : decode cX12_gets 124 = .ok (.aload 4, 2) := dk_25 4 (dk_at dksX12_gets_5 9 rfl rfl)
theorem dX12_gets_126 : decode cX12_gets 126 = .ok (.iconst 0, 1) := dk_3 (dk_at dksX12_gets_5 11 rfl rfl)
theorem dX12_gets_127 : decode cX12_gets 127 = .ok (.invokevirtual 148, 3) := dk_182 0 148 (dk_at dksX12_gets_5 12 rfl rfl)
theorem dX12_gets_130 : decode cX12_gets 130 = .ok (.checkcast 161, 3) := dk_192 0 161 (dk_at dksX12_gets_5 15 rfl rfl)
theorem dX12_gets_133 : decode cX12_gets 133 = .ok (.getfield 267, 3) := dk_180 1 11 (dk_at dksX12_gets_5 18 rfl rfl)
theorem dX12_gets_136 : decode cX12_gets 136 = .ok (.aload_n 2, 1) := dk_44 (dk_at dksX12_gets_5 21 rfl rfl)
theorem dX12_gets_137 : decode cX12_gets 137 = .ok (.getfield 81, 3) := dk_180 0 81 (dk_at dksX12_gets_6 0 rfl rfl)
theorem dX12_gets_140 : decode cX12_gets 140 = .ok (.if_icmp .ne 29, 3) := dk_160 0 29 (dk_at dksX12_gets_6 3 rfl rfl)
theorem dX12_gets_143 : decode cX12_gets 143 = .ok (.aload_n 3, 1) := dk_45 (dk_at dksX12_gets_6 6 rfl rfl)
theorem dX12_gets_144 : decode cX12_gets 144 = .ok (.getfield 231, 3) := dk_180 0 231 (dk_at dksX12_gets_6 7 rfl rfl)
theorem dX12_gets_147 : decode cX12_gets 147 = .ok (.aload_n 2, 1) := dk_44 (dk_at dksX12_gets_6 10 rfl rfl)
theorem dX12_gets_148 : decode cX12_gets 148 = .ok (.getfield 81, 3) := dk_180 0 81 (dk_at dksX12_gets_6 11 rfl rfl)
theorem dX12_gets_151 : decode cX12_gets 151 = .ok (.aload_n 0, 1) := dk_42 (dk_at dksX12_gets_6 14 rfl rfl)
theorem dX12_gets_152 : decode cX12_gets 152 = .ok (.getfield 78, 3) := dk_180 0 78 (dk_at dksX12_gets_6 15 rfl rfl)
theorem dX12_gets_155 : decode cX12_gets 155 = .ok (.aload 4, 2) := dk_25 4 (dk_at dksX12_gets_6 18 rfl rfl)
theorem dX12_gets_157 : decode cX12_gets 157 = .ok (.iconst 0, 1) := dk_3 (dk_at dksX12_gets_6 20 rfl rfl)
theorem dX12_gets_158 : decode cX12_gets 158 = .ok (.invokevirtual 148, 3) := dk_182 0 148 (dk_at dksX12_gets_6 21 rfl rfl)
theorem dX12_gets_161 : decode cX12_gets 161 = .ok (.checkcast 161, 3) := dk_192 0 161 (dk_at dksX12_gets_7 0 rfl rfl)
theorem dX12_gets_164 : decode cX12_gets 164 = .ok (.getfield 270, 3) := dk_180 1 14 (dk_at dksX12_gets_7 3 rfl rfl)
theorem dX12_gets_167 : decode cX12_gets 167 = .ok (.isub, 1) := dk_100 (dk_at dksX12_gets_7 6 rfl rfl)
theorem dX12_gets_168 : decode cX12_gets 168 = .ok (.iastore, 1) := dk_79 (dk_at dksX12_gets_7 7 rfl rfl)
theorem dX12_gets_169 : decode cX12_gets 169 = .ok (.aload_n 3, 1) := dk_45 (dk_at dksX12_gets_7 8 rfl rfl)
theorem dX12_gets_170 : decode cX12_gets 170 = .ok (.aload_n 2, 1) := dk_44 (dk_at dksX12_gets_7 9 rfl rfl)
theorem dX12_gets_171 : decode cX12_gets 171 = .ok (.getfield 277, 3) := dk_180 1 21 (dk_at dksX12_gets_7 10 rfl rfl)
theorem dX12_gets_174 : decode cX12_gets 174 = .ok (.aload_n 0, 1) := dk_42 (dk_at dksX12_gets_7 13 rfl rfl)
theorem dX12_gets_175 : decode cX12_gets 175 = .ok (.getfield 34, 3) := dk_180 0 34 (dk_at dksX12_gets_7 14 rfl rfl)
theorem dX12_gets_178 : decode cX12_gets 178 = .ok (.getfield 293, 3) := dk_180 1 37 (dk_at dksX12_gets_7 17 rfl rfl)
theorem dX12_gets_181 : decode cX12_gets 181 = .ok (.iload_n 1, 1) := dk_27 (dk_at dksX12_gets_7 20 rfl rfl)
theorem dX12_gets_182 : decode cX12_gets 182 = .ok (.iaload, 1) := dk_46 (dk_at dksX12_gets_7 21 rfl rfl)
theorem dX12_gets_183 : decode cX12_gets 183 = .ok (.invokevirtual 296, 3) := dk_182 1 40 (dk_at dksX12_gets_8 0 rfl rfl)
theorem dX12_gets_186 : decode cX12_gets 186 = .ok (.aload 4, 2) := dk_25 4 (dk_at dksX12_gets_8 3 rfl rfl)
theorem dX12_gets_188 : decode cX12_gets 188 = .ok (.invokevirtual 57, 3) := dk_182 0 57 (dk_at dksX12_gets_8 5 rfl rfl)
theorem dX12_gets_191 : decode cX12_gets 191 = .ok (.astore 5, 2) := dk_58 5 (dk_at dksX12_gets_8 8 rfl rfl)
theorem dX12_gets_193 : decode cX12_gets 193 = .ok (.aload 5, 2) := dk_25 5 (dk_at dksX12_gets_8 10 rfl rfl)
theorem dX12_gets_195 : decode cX12_gets 195 = .ok (.invokeinterface 61 1, 5) := by decide +kernel
theorem dX12_gets_200 : decode cX12_gets 200 = .ok (.ifCond .eq 142, 3) := dk_153 0 142 (dk_at dksX12_gets_8 17 rfl rfl)
theorem dX12_gets_203 : decode cX12_gets 203 = .ok (.aload 5, 2) := dk_25 5 (dk_at dksX12_gets_8 20 rfl rfl)
theorem dX12_gets_205 : decode cX12_gets 205 = .ok (.invokeinterface 67 1, 5) := by decide +kernel
theorem dX12_gets_210 : decode cX12_gets 210 = .ok (.checkcast 161, 3) := dk_192 0 161 (dk_at dksX12_gets_9 5 rfl rfl)
theorem dX12_gets_213 : decode cX12_gets 213 = .ok (.astore 6, 2) := dk_58 6 (dk_at dksX12_gets_9 8 rfl rfl)
theorem dX12_gets_215 : decode cX12_gets 215 = .ok (.aload_n 3, 1) := dk_45 (dk_at dksX12_gets_9 10 rfl rfl)
theorem dX12_gets_216 : decode cX12_gets 216 = .ok (.aload 6, 2) := dk_25 6 (dk_at dksX12_gets_9 11 rfl rfl)
theorem dX12_gets_218 : decode cX12_gets 218 = .ok (.invokevirtual 262, 3) := dk_182 1 6 (dk_at dksX12_gets_9 13 rfl rfl)
theorem dX12_gets_221 : decode cX12_gets 221 = .ok (.aload_n 3, 1) := dk_45 (dk_at dksX12_gets_9 16 rfl rfl)
theorem dX12_gets_222 : decode cX12_gets 222 = .ok (.dup, 1) := dk_89 (dk_at dksX12_gets_9 17 rfl rfl)
theorem dX12_gets_223 : decode cX12_gets 223 = .ok (.getfield 156, 3) := dk_180 0 156 (dk_at dksX12_gets_9 18 rfl rfl)
theorem dX12_gets_226 : decode cX12_gets 226 = .ok (.aload 6, 2) := dk_25 6 (dk_at dksX12_gets_9 21 rfl rfl)
theorem dX12_gets_228 : decode cX12_gets 228 = .ok (.getfield 160, 3) := dk_180 0 160 (dk_at dksX12_gets_10 0 rfl rfl)
theorem dX12_gets_231 : decode cX12_gets 231 = .ok (.lor, 1) := dk_129 (dk_at dksX12_gets_10 3 rfl rfl)
theorem dX12_gets_232 : decode cX12_gets 232 = .ok (.putfield 156, 3) := dk_181 0 156 (dk_at dksX12_gets_10 4 rfl rfl)
theorem dX12_gets_235 : decode cX12_gets 235 = .ok (.iconst 0, 1) := dk_3 (dk_at dksX12_gets_10 7 rfl rfl)
theorem dX12_gets_236 : decode cX12_gets 236 = .ok (.istore 7, 2) := dk_54 7 (dk_at dksX12_gets_10 8 rfl rfl)
theorem dX12_gets_238 : decode cX12_gets 238 = .ok (.iload 7, 2) := dk_21 7 (dk_at dksX12_gets_10 10 rfl rfl)
theorem dX12_gets_240 : decode cX12_gets 240 = .ok (.aload_n 0, 1) := dk_42 (dk_at dksX12_gets_10 12 rfl rfl)
theorem dX12_gets_241 : decode cX12_gets 241 = .ok (.getfield 34, 3) := dk_180 0 34 (dk_at dksX12_gets_10 13 rfl rfl)
theorem dX12_gets_244 : decode cX12_gets 244 = .ok (.getfield 38, 3) := dk_180 0 38 (dk_at dksX12_gets_10 16 rfl rfl)
theorem dX12_gets_247 : decode cX12_gets 247 = .ok (.if_icmp .ge 38, 3) := dk_162 0 38 (dk_at dksX12_gets_10 19 rfl rfl)
theorem dX12_gets_250 : decode cX12_gets 250 = .ok (.aload 6, 2) := dk_25 6 (dk_at dksX12_gets_10 22 rfl rfl)
theorem dX12_gets_252 : decode cX12_gets 252 = .ok (.getfield 256, 3) := dk_180 1 0 (dk_at dksX12_gets_11 0 rfl rfl)
theorem dX12_gets_255 : decode cX12_gets 255 = .ok (.iload 7, 2) := dk_21 7 (dk_at dksX12_gets_11 3 rfl rfl)
theorem dX12_gets_257 : decode cX12_gets 257 = .ok (.invokestatic 228, 3) := dk_184 0 228 (dk_at dksX12_gets_11 5 rfl rfl)
theorem dX12_gets_260 : decode cX12_gets 260 = .ok (.ifCond .eq 19, 3) := dk_153 0 19 (dk_at dksX12_gets_11 8 rfl rfl)
theorem dX12_gets_263 : decode cX12_gets 263 = .ok (.aload_n 0, 1) := dk_42 (dk_at dksX12_gets_11 11 rfl rfl)
theorem dX12_gets_264 : decode cX12_gets 264 = .ok (.iload_n 1, 1) := dk_27 (dk_at dksX12_gets_11 12 rfl rfl)
theorem dX12_gets_265 : decode cX12_gets 265 = .ok (.iload 7, 2) := dk_21 7 (dk_at dksX12_gets_11 13 rfl rfl)
theorem dX12_gets_267 : decode cX12_gets 267 = .ok (.iconst (-1), 1) := dk_2 (dk_at dksX12_gets_11 15 rfl rfl)
theorem dX12_gets_268 : decode cX12_gets 268 = .ok (.aload_n 2, 1) := dk_44 (dk_at dksX12_gets_11 16 rfl rfl)
theorem dX12_gets_269 : decode cX12_gets 269 = .ok (.getfield 277, 3) := dk_180 1 21 (dk_at dksX12_gets_11 17 rfl rfl)
theorem dX12_gets_272 : decode cX12_gets 272 = .ok (.aload_n 2, 1) := dk_44 (dk_at dksX12_gets_11 20 rfl rfl)
theorem dX12_gets_273 : decode cX12_gets 273 = .ok (.getfield 300, 3) := dk_180 1 44 (dk_at dksX12_gets_11 21 rfl rfl)
theorem dX12_gets_276 : decode cX12_gets 276 = .ok (.invokevirtual 180, 3) := dk_182 0 180 (dk_at dksX12_gets_12 0 rfl rfl)
theorem dX12_gets_279 : decode cX12_gets 279 = .ok (.iinc 7 1, 3) := dk_132 7 1 (dk_at dksX12_gets_12 3 rfl rfl)
theorem dX12_gets_282 : decode cX12_gets 282 = .ok (.goto (-44), 3) := dk_167 255 212 (dk_at dksX12_gets_12 6 rfl rfl)
theorem dX12_gets_285 : decode cX12_gets 285 = .ok (.aload 6, 2) := dk_25 6 (dk_at dksX12_gets_12 9 rfl rfl)
theorem dX12_gets_287 : decode cX12_gets 287 = .ok (.getfield 303, 3) := dk_180 1 47 (dk_at dksX12_gets_12 11 rfl rfl)
theorem dX12_gets_290 : decode cX12_gets 290 = .ok (.invokevirtual 57, 3) := dk_182 0 57 (dk_at dksX12_gets_12 14 rfl rfl)
theorem dX12_gets_293 : decode cX12_gets 293 = .ok (.astore 7, 2) := dk_58 7 (dk_at dksX12_gets_12 17 rfl rfl)
theorem dX12_gets_295 : decode cX12_gets 295 = .ok (.aload 7, 2) := dk_25 7 (dk_at dksX12_gets_12 19 rfl rfl)
theorem dX12_gets_297 : decode cX12_gets 297 = .ok (.invokeinterface 61 1, 5) := by decide +kernel
theorem dX12_gets_302 : decode cX12_gets 302 = .ok (.ifCond .eq 37, 3) := dk_153 0 37 (dk_at dksX12_gets_13 5 rfl rfl)
theorem dX12_gets_305 : decode cX12_gets 305 = .ok (.aload 7, 2) := dk_25 7 (dk_at dksX12_gets_13 8 rfl rfl)
theorem dX12_gets_307 : decode cX12_gets 307 = .ok (.invokeinterface 67 1, 5) := by decide +kernel
theorem dX12_gets_312 : decode cX12_gets 312 = .ok (.checkcast 306, 3) := dk_192 1 50 (dk_at dksX12_gets_13 15 rfl rfl)
theorem dX12_gets_315 : decode cX12_gets 315 = .ok (.invokevirtual 308, 3) := dk_182 1 52 (dk_at dksX12_gets_13 18 rfl rfl)
theorem dX12_gets_318 : decode cX12_gets 318 = .ok (.istore 8, 2) := dk_54 8 (dk_at dksX12_gets_13 21 rfl rfl)
theorem dX12_gets_320 : decode cX12_gets 320 = .ok (.aload_n 0, 1) := dk_42 (dk_at dksX12_gets_13 23 rfl rfl)
theorem dX12_gets_321 : decode cX12_gets 321 = .ok (.iload_n 1, 1) := dk_27 (dk_at dksX12_gets_14 0 rfl rfl)
theorem dX12_gets_322 : decode cX12_gets 322 = .ok (.iconst (-1), 1) := dk_2 (dk_at dksX12_gets_14 1 rfl rfl)
theorem dX12_gets_323 : decode cX12_gets 323 = .ok (.iload 8, 2) := dk_21 8 (dk_at dksX12_gets_14 2 rfl rfl)
theorem dX12_gets_325 : decode cX12_gets 325 = .ok (.aload_n 2, 1) := dk_44 (dk_at dksX12_gets_14 4 rfl rfl)
theorem dX12_gets_326 : decode cX12_gets 326 = .ok (.getfield 277, 3) := dk_180 1 21 (dk_at dksX12_gets_14 5 rfl rfl)
theorem dX12_gets_329 : decode cX12_gets 329 = .ok (.aload_n 2, 1) := dk_44 (dk_at dksX12_gets_14 8 rfl rfl)
theorem dX12_gets_330 : decode cX12_gets 330 = .ok (.getfield 300, 3) := dk_180 1 44 (dk_at dksX12_gets_14 9 rfl rfl)
theorem dX12_gets_333 : decode cX12_gets 333 = .ok (.invokevirtual 180, 3) := dk_182 0 180 (dk_at dksX12_gets_14 12 rfl rfl)
theorem dX12_gets_336 : decode cX12_gets 336 = .ok (.goto (-41), 3) := dk_167 255 215 (dk_at dksX12_gets_14 15 rfl rfl)
theorem dX12_gets_339 : decode cX12_gets 339 = .ok (.goto (-146), 3) := dk_167 255 110 (dk_at dksX12_gets_14 18 rfl rfl)
theorem dX12_gets_342 : decode cX12_gets 342 = .ok (.return_, 1) := dk_177 (dk_at dksX12_gets_14 21 rfl rfl)
abbrev cX12_hears : ByteArray := prog_9_method_19_code
def yX12_hears : MethodName := ⟨RX12, "hears", "(ILAskedNames$Message;)V"⟩
def dkwX12_hears_8 : List UInt8 := [25, 6, 182, 0, 144, 167, 255, 211, 177]
abbrev dktX12_hears_8 : List UInt8 := dkwX12_hears_8 ++ []
def dkwX12_hears_7 : List UInt8 := [192, 1, 50, 182, 1, 52, 54, 8, 42, 27, 2, 21, 8, 25, 4, 180, 0, 255, 25, 4, 180, 1, 15]
abbrev dktX12_hears_7 : List UInt8 := dkwX12_hears_7 ++ dktX12_hears_8
def dkwX12_hears_6 : List UInt8 := [182, 0, 57, 58, 7, 25, 7, 185, 0, 61, 1, 0, 153, 0, 41, 25, 7, 185, 0, 67, 1, 0]
abbrev dktX12_hears_6 : List UInt8 := dkwX12_hears_6 ++ dktX12_hears_7
def dkwX12_hears_5 : List UInt8 := [180, 0, 255, 25, 4, 180, 1, 15, 25, 6, 182, 0, 144, 132, 7, 1, 167, 255, 208, 25, 4, 180, 1, 47]
abbrev dktX12_hears_5 : List UInt8 := dkwX12_hears_5 ++ dktX12_hears_6
def dkwX12_hears_4 : List UInt8 := [162, 0, 42, 25, 4, 180, 1, 0, 21, 7, 184, 0, 228, 153, 0, 23, 42, 27, 21, 7, 2, 25, 4]
abbrev dktX12_hears_4 : List UInt8 := dkwX12_hears_4 ++ dktX12_hears_5
def dkwX12_hears_3 : List UInt8 := [180, 0, 156, 25, 4, 180, 0, 160, 129, 181, 0, 156, 3, 54, 7, 21, 7, 42, 180, 0, 34, 180, 0, 38]
abbrev dktX12_hears_3 : List UInt8 := dkwX12_hears_3 ++ dktX12_hears_4
def dkwX12_hears_2 : List UInt8 := [182, 0, 204, 167, 0, 144, 58, 5, 187, 0, 123, 89, 44, 180, 1, 57, 183, 0, 141, 58, 6, 45, 89]
abbrev dktX12_hears_2 : List UInt8 := dkwX12_hears_2 ++ dktX12_hears_3
def dkwX12_hears_1 : List UInt8 := [58, 4, 25, 4, 198, 0, 15, 25, 4, 180, 1, 11, 44, 180, 0, 81, 159, 0, 4, 177, 42, 27, 25, 4]
abbrev dktX12_hears_1 : List UInt8 := dkwX12_hears_1 ++ dktX12_hears_2
def dkwX12_hears_0 : List UInt8 := [42, 180, 0, 14, 27, 182, 0, 148, 192, 0, 43, 78, 45, 44, 180, 1, 55, 44, 180, 1, 56, 182, 0, 152]
abbrev dktX12_hears_0 : List UInt8 := dkwX12_hears_0 ++ dktX12_hears_1
theorem dksX12_hears_0 : cX12_hears.data.toList.drop 0 = dktX12_hears_0 := by decide +kernel
theorem dksX12_hears_1 : cX12_hears.data.toList.drop 24 = dktX12_hears_1 := dk_seg dksX12_hears_0 24 rfl rfl
theorem dksX12_hears_2 : cX12_hears.data.toList.drop 48 = dktX12_hears_2 := dk_seg dksX12_hears_1 24 rfl rfl
theorem dksX12_hears_3 : cX12_hears.data.toList.drop 71 = dktX12_hears_3 := dk_seg dksX12_hears_2 23 rfl rfl
theorem dksX12_hears_4 : cX12_hears.data.toList.drop 95 = dktX12_hears_4 := dk_seg dksX12_hears_3 24 rfl rfl
theorem dksX12_hears_5 : cX12_hears.data.toList.drop 118 = dktX12_hears_5 := dk_seg dksX12_hears_4 23 rfl rfl
theorem dksX12_hears_6 : cX12_hears.data.toList.drop 142 = dktX12_hears_6 := dk_seg dksX12_hears_5 24 rfl rfl
theorem dksX12_hears_7 : cX12_hears.data.toList.drop 164 = dktX12_hears_7 := dk_seg dksX12_hears_6 22 rfl rfl
theorem dksX12_hears_8 : cX12_hears.data.toList.drop 187 = dktX12_hears_8 := dk_seg dksX12_hears_7 23 rfl rfl
theorem dX12_hears_0 : decode cX12_hears 0 = .ok (.aload_n 0, 1) := dk_42 (dk_at dksX12_hears_0 0 rfl rfl)
theorem dX12_hears_1 : decode cX12_hears 1 = .ok (.getfield 14, 3) := dk_180 0 14 (dk_at dksX12_hears_0 1 rfl rfl)
theorem dX12_hears_4 : decode cX12_hears 4 = .ok (.iload_n 1, 1) := dk_27 (dk_at dksX12_hears_0 4 rfl rfl)
theorem dX12_hears_5 : decode cX12_hears 5 = .ok (.invokevirtual 148, 3) := dk_182 0 148 (dk_at dksX12_hears_0 5 rfl rfl)
theorem dX12_hears_8 : decode cX12_hears 8 = .ok (.checkcast 43, 3) := dk_192 0 43 (dk_at dksX12_hears_0 8 rfl rfl)
theorem dX12_hears_11 : decode cX12_hears 11 = .ok (.astore_n 3, 1) := dk_78 (dk_at dksX12_hears_0 11 rfl rfl)
theorem dX12_hears_12 : decode cX12_hears 12 = .ok (.aload_n 3, 1) := dk_45 (dk_at dksX12_hears_0 12 rfl rfl)
theorem dX12_hears_13 : decode cX12_hears 13 = .ok (.aload_n 2, 1) := dk_44 (dk_at dksX12_hears_0 13 rfl rfl)
theorem dX12_hears_14 : decode cX12_hears 14 = .ok (.getfield 311, 3) := dk_180 1 55 (dk_at dksX12_hears_0 14 rfl rfl)
theorem dX12_hears_17 : decode cX12_hears 17 = .ok (.aload_n 2, 1) := dk_44 (dk_at dksX12_hears_0 17 rfl rfl)
theorem dX12_hears_18 : decode cX12_hears 18 = .ok (.getfield 312, 3) := dk_180 1 56 (dk_at dksX12_hears_0 18 rfl rfl)
theorem dX12_hears_21 : decode cX12_hears 21 = .ok (.invokevirtual 152, 3) := dk_182 0 152 (dk_at dksX12_hears_0 21 rfl rfl)
theorem dX12_hears_24 : decode cX12_hears 24 = .ok (.astore 4, 2) := dk_58 4 (dk_at dksX12_hears_1 0 rfl rfl)
theorem dX12_hears_26 : decode cX12_hears 26 = .ok (.aload 4, 2) := dk_25 4 (dk_at dksX12_hears_1 2 rfl rfl)
theorem dX12_hears_28 : decode cX12_hears 28 = .ok (.ifnull 15, 3) := dk_198 0 15 (dk_at dksX12_hears_1 4 rfl rfl)
theorem dX12_hears_31 : decode cX12_hears 31 = .ok (.aload 4, 2) := dk_25 4 (dk_at dksX12_hears_1 7 rfl rfl)
theorem dX12_hears_33 : decode cX12_hears 33 = .ok (.getfield 267, 3) := dk_180 1 11 (dk_at dksX12_hears_1 9 rfl rfl)
theorem dX12_hears_36 : decode cX12_hears 36 = .ok (.aload_n 2, 1) := dk_44 (dk_at dksX12_hears_1 12 rfl rfl)
theorem dX12_hears_37 : decode cX12_hears 37 = .ok (.getfield 81, 3) := dk_180 0 81 (dk_at dksX12_hears_1 13 rfl rfl)
theorem dX12_hears_40 : decode cX12_hears 40 = .ok (.if_icmp .eq 4, 3) := dk_159 0 4 (dk_at dksX12_hears_1 16 rfl rfl)
theorem dX12_hears_43 : decode cX12_hears 43 = .ok (.return_, 1) := dk_177 (dk_at dksX12_hears_1 19 rfl rfl)
theorem dX12_hears_44 : decode cX12_hears 44 = .ok (.aload_n 0, 1) := dk_42 (dk_at dksX12_hears_1 20 rfl rfl)
theorem dX12_hears_45 : decode cX12_hears 45 = .ok (.iload_n 1, 1) := dk_27 (dk_at dksX12_hears_1 21 rfl rfl)
theorem dX12_hears_46 : decode cX12_hears 46 = .ok (.aload 4, 2) := dk_25 4 (dk_at dksX12_hears_1 22 rfl rfl)
theorem dX12_hears_48 : decode cX12_hears 48 = .ok (.invokevirtual 204, 3) := dk_182 0 204 (dk_at dksX12_hears_2 0 rfl rfl)
theorem dX12_hears_51 : decode cX12_hears 51 = .ok (.goto 144, 3) := dk_167 0 144 (dk_at dksX12_hears_2 3 rfl rfl)
theorem dX12_hears_54 : decode cX12_hears 54 = .ok (.astore 5, 2) := dk_58 5 (dk_at dksX12_hears_2 6 rfl rfl)
theorem dX12_hears_56 : decode cX12_hears 56 = .ok (.new 123, 3) := dk_187 0 123 (dk_at dksX12_hears_2 8 rfl rfl)
theorem dX12_hears_59 : decode cX12_hears 59 = .ok (.dup, 1) := dk_89 (dk_at dksX12_hears_2 11 rfl rfl)
theorem dX12_hears_60 : decode cX12_hears 60 = .ok (.aload_n 2, 1) := dk_44 (dk_at dksX12_hears_2 12 rfl rfl)
theorem dX12_hears_61 : decode cX12_hears 61 = .ok (.getfield 313, 3) := dk_180 1 57 (dk_at dksX12_hears_2 13 rfl rfl)
theorem dX12_hears_64 : decode cX12_hears 64 = .ok (.invokespecial 141, 3) := dk_183 0 141 (dk_at dksX12_hears_2 16 rfl rfl)
theorem dX12_hears_67 : decode cX12_hears 67 = .ok (.astore 6, 2) := dk_58 6 (dk_at dksX12_hears_2 19 rfl rfl)
theorem dX12_hears_69 : decode cX12_hears 69 = .ok (.aload_n 3, 1) := dk_45 (dk_at dksX12_hears_2 21 rfl rfl)
theorem dX12_hears_70 : decode cX12_hears 70 = .ok (.dup, 1) := dk_89 (dk_at dksX12_hears_2 22 rfl rfl)
theorem dX12_hears_71 : decode cX12_hears 71 = .ok (.getfield 156, 3) := dk_180 0 156 (dk_at dksX12_hears_3 0 rfl rfl)
theorem dX12_hears_74 : decode cX12_hears 74 = .ok (.aload 4, 2) := dk_25 4 (dk_at dksX12_hears_3 3 rfl rfl)
theorem dX12_hears_76 : decode cX12_hears 76 = .ok (.getfield 160, 3) := dk_180 0 160 (dk_at dksX12_hears_3 5 rfl rfl)
theorem dX12_hears_79 : decode cX12_hears 79 = .ok (.lor, 1) := dk_129 (dk_at dksX12_hears_3 8 rfl rfl)
theorem dX12_hears_80 : decode cX12_hears 80 = .ok (.putfield 156, 3) := dk_181 0 156 (dk_at dksX12_hears_3 9 rfl rfl)
theorem dX12_hears_83 : decode cX12_hears 83 = .ok (.iconst 0, 1) := dk_3 (dk_at dksX12_hears_3 12 rfl rfl)
theorem dX12_hears_84 : decode cX12_hears 84 = .ok (.istore 7, 2) := dk_54 7 (dk_at dksX12_hears_3 13 rfl rfl)
theorem dX12_hears_86 : decode cX12_hears 86 = .ok (.iload 7, 2) := dk_21 7 (dk_at dksX12_hears_3 15 rfl rfl)
theorem dX12_hears_88 : decode cX12_hears 88 = .ok (.aload_n 0, 1) := dk_42 (dk_at dksX12_hears_3 17 rfl rfl)
theorem dX12_hears_89 : decode cX12_hears 89 = .ok (.getfield 34, 3) := dk_180 0 34 (dk_at dksX12_hears_3 18 rfl rfl)
theorem dX12_hears_92 : decode cX12_hears 92 = .ok (.getfield 38, 3) := dk_180 0 38 (dk_at dksX12_hears_3 21 rfl rfl)
theorem dX12_hears_95 : decode cX12_hears 95 = .ok (.if_icmp .ge 42, 3) := dk_162 0 42 (dk_at dksX12_hears_4 0 rfl rfl)
theorem dX12_hears_98 : decode cX12_hears 98 = .ok (.aload 4, 2) := dk_25 4 (dk_at dksX12_hears_4 3 rfl rfl)
theorem dX12_hears_100 : decode cX12_hears 100 = .ok (.getfield 256, 3) := dk_180 1 0 (dk_at dksX12_hears_4 5 rfl rfl)
theorem dX12_hears_103 : decode cX12_hears 103 = .ok (.iload 7, 2) := dk_21 7 (dk_at dksX12_hears_4 8 rfl rfl)
theorem dX12_hears_105 : decode cX12_hears 105 = .ok (.invokestatic 228, 3) := dk_184 0 228 (dk_at dksX12_hears_4 10 rfl rfl)
theorem dX12_hears_108 : decode cX12_hears 108 = .ok (.ifCond .eq 23, 3) := dk_153 0 23 (dk_at dksX12_hears_4 13 rfl rfl)
theorem dX12_hears_111 : decode cX12_hears 111 = .ok (.aload_n 0, 1) := dk_42 (dk_at dksX12_hears_4 16 rfl rfl)
theorem dX12_hears_112 : decode cX12_hears 112 = .ok (.iload_n 1, 1) := dk_27 (dk_at dksX12_hears_4 17 rfl rfl)
theorem dX12_hears_113 : decode cX12_hears 113 = .ok (.iload 7, 2) := dk_21 7 (dk_at dksX12_hears_4 18 rfl rfl)
theorem dX12_hears_115 : decode cX12_hears 115 = .ok (.iconst (-1), 1) := dk_2 (dk_at dksX12_hears_4 20 rfl rfl)
theorem dX12_hears_116 : decode cX12_hears 116 = .ok (.aload 4, 2) := dk_25 4 (dk_at dksX12_hears_4 21 rfl rfl)
theorem dX12_hears_118 : decode cX12_hears 118 = .ok (.getfield 255, 3) := dk_180 0 255 (dk_at dksX12_hears_5 0 rfl rfl)
theorem dX12_hears_121 : decode cX12_hears 121 = .ok (.aload 4, 2) := dk_25 4 (dk_at dksX12_hears_5 3 rfl rfl)
theorem dX12_hears_123 : decode cX12_hears 123 = .ok (.getfield 271, 3) := dk_180 1 15 (dk_at dksX12_hears_5 5 rfl rfl)
theorem dX12_hears_126 : decode cX12_hears 126 = .ok (.aload 6, 2) := dk_25 6 (dk_at dksX12_hears_5 8 rfl rfl)
theorem dX12_hears_128 : decode cX12_hears 128 = .ok (.invokevirtual 144, 3) := dk_182 0 144 (dk_at dksX12_hears_5 10 rfl rfl)
theorem dX12_hears_131 : decode cX12_hears 131 = .ok (.iinc 7 1, 3) := dk_132 7 1 (dk_at dksX12_hears_5 13 rfl rfl)
theorem dX12_hears_134 : decode cX12_hears 134 = .ok (.goto (-48), 3) := dk_167 255 208 (dk_at dksX12_hears_5 16 rfl rfl)
theorem dX12_hears_137 : decode cX12_hears 137 = .ok (.aload 4, 2) := dk_25 4 (dk_at dksX12_hears_5 19 rfl rfl)
theorem dX12_hears_139 : decode cX12_hears 139 = .ok (.getfield 303, 3) := dk_180 1 47 (dk_at dksX12_hears_5 21 rfl rfl)
theorem dX12_hears_142 : decode cX12_hears 142 = .ok (.invokevirtual 57, 3) := dk_182 0 57 (dk_at dksX12_hears_6 0 rfl rfl)
theorem dX12_hears_145 : decode cX12_hears 145 = .ok (.astore 7, 2) := dk_58 7 (dk_at dksX12_hears_6 3 rfl rfl)
theorem dX12_hears_147 : decode cX12_hears 147 = .ok (.aload 7, 2) := dk_25 7 (dk_at dksX12_hears_6 5 rfl rfl)
theorem dX12_hears_149 : decode cX12_hears 149 = .ok (.invokeinterface 61 1, 5) := by decide +kernel
theorem dX12_hears_154 : decode cX12_hears 154 = .ok (.ifCond .eq 41, 3) := dk_153 0 41 (dk_at dksX12_hears_6 12 rfl rfl)
theorem dX12_hears_157 : decode cX12_hears 157 = .ok (.aload 7, 2) := dk_25 7 (dk_at dksX12_hears_6 15 rfl rfl)
theorem dX12_hears_159 : decode cX12_hears 159 = .ok (.invokeinterface 67 1, 5) := by decide +kernel
theorem dX12_hears_164 : decode cX12_hears 164 = .ok (.checkcast 306, 3) := dk_192 1 50 (dk_at dksX12_hears_7 0 rfl rfl)
theorem dX12_hears_167 : decode cX12_hears 167 = .ok (.invokevirtual 308, 3) := dk_182 1 52 (dk_at dksX12_hears_7 3 rfl rfl)
theorem dX12_hears_170 : decode cX12_hears 170 = .ok (.istore 8, 2) := dk_54 8 (dk_at dksX12_hears_7 6 rfl rfl)
theorem dX12_hears_172 : decode cX12_hears 172 = .ok (.aload_n 0, 1) := dk_42 (dk_at dksX12_hears_7 8 rfl rfl)
theorem dX12_hears_173 : decode cX12_hears 173 = .ok (.iload_n 1, 1) := dk_27 (dk_at dksX12_hears_7 9 rfl rfl)
theorem dX12_hears_174 : decode cX12_hears 174 = .ok (.iconst (-1), 1) := dk_2 (dk_at dksX12_hears_7 10 rfl rfl)
theorem dX12_hears_175 : decode cX12_hears 175 = .ok (.iload 8, 2) := dk_21 8 (dk_at dksX12_hears_7 11 rfl rfl)
theorem dX12_hears_177 : decode cX12_hears 177 = .ok (.aload 4, 2) := dk_25 4 (dk_at dksX12_hears_7 13 rfl rfl)
theorem dX12_hears_179 : decode cX12_hears 179 = .ok (.getfield 255, 3) := dk_180 0 255 (dk_at dksX12_hears_7 15 rfl rfl)
theorem dX12_hears_182 : decode cX12_hears 182 = .ok (.aload 4, 2) := dk_25 4 (dk_at dksX12_hears_7 18 rfl rfl)
theorem dX12_hears_184 : decode cX12_hears 184 = .ok (.getfield 271, 3) := dk_180 1 15 (dk_at dksX12_hears_7 20 rfl rfl)
theorem dX12_hears_187 : decode cX12_hears 187 = .ok (.aload 6, 2) := dk_25 6 (dk_at dksX12_hears_8 0 rfl rfl)
theorem dX12_hears_189 : decode cX12_hears 189 = .ok (.invokevirtual 144, 3) := dk_182 0 144 (dk_at dksX12_hears_8 2 rfl rfl)
theorem dX12_hears_192 : decode cX12_hears 192 = .ok (.goto (-45), 3) := dk_167 255 211 (dk_at dksX12_hears_8 5 rfl rfl)
theorem dX12_hears_195 : decode cX12_hears 195 = .ok (.return_, 1) := dk_177 (dk_at dksX12_hears_8 8 rfl rfl)
abbrev cX12_turns : ByteArray := prog_9_method_3_code
def yX12_turns : MethodName := ⟨RX12, "turns", "(II)V"⟩
def dkwX12_turns_1 : List UInt8 := [96, 92, 51, 4, 130, 84, 177]
abbrev dktX12_turns_1 : List UInt8 := dkwX12_turns_1 ++ []
def dkwX12_turns_0 : List UInt8 := [42, 180, 0, 24, 16, 6, 27, 104, 28, 96, 92, 51, 4, 130, 84, 42, 180, 0, 24, 16, 6, 28, 104, 27]
abbrev dktX12_turns_0 : List UInt8 := dkwX12_turns_0 ++ dktX12_turns_1
theorem dksX12_turns_0 : cX12_turns.data.toList.drop 0 = dktX12_turns_0 := by decide +kernel
theorem dksX12_turns_1 : cX12_turns.data.toList.drop 24 = dktX12_turns_1 := dk_seg dksX12_turns_0 24 rfl rfl
theorem dX12_turns_0 : decode cX12_turns 0 = .ok (.aload_n 0, 1) := dk_42 (dk_at dksX12_turns_0 0 rfl rfl)
theorem dX12_turns_1 : decode cX12_turns 1 = .ok (.getfield 24, 3) := dk_180 0 24 (dk_at dksX12_turns_0 1 rfl rfl)
theorem dX12_turns_4 : decode cX12_turns 4 = .ok (.bipush 6, 2) := dk_16 6 (dk_at dksX12_turns_0 4 rfl rfl)
theorem dX12_turns_6 : decode cX12_turns 6 = .ok (.iload_n 1, 1) := dk_27 (dk_at dksX12_turns_0 6 rfl rfl)
theorem dX12_turns_7 : decode cX12_turns 7 = .ok (.imul, 1) := dk_104 (dk_at dksX12_turns_0 7 rfl rfl)
theorem dX12_turns_8 : decode cX12_turns 8 = .ok (.iload_n 2, 1) := dk_28 (dk_at dksX12_turns_0 8 rfl rfl)
theorem dX12_turns_9 : decode cX12_turns 9 = .ok (.iadd, 1) := dk_96 (dk_at dksX12_turns_0 9 rfl rfl)
theorem dX12_turns_10 : decode cX12_turns 10 = .ok (.dup2, 1) := dk_92 (dk_at dksX12_turns_0 10 rfl rfl)
theorem dX12_turns_11 : decode cX12_turns 11 = .ok (.baload, 1) := dk_51 (dk_at dksX12_turns_0 11 rfl rfl)
theorem dX12_turns_12 : decode cX12_turns 12 = .ok (.iconst 1, 1) := dk_4 (dk_at dksX12_turns_0 12 rfl rfl)
theorem dX12_turns_13 : decode cX12_turns 13 = .ok (.ixor, 1) := dk_130 (dk_at dksX12_turns_0 13 rfl rfl)
theorem dX12_turns_14 : decode cX12_turns 14 = .ok (.bastore, 1) := dk_84 (dk_at dksX12_turns_0 14 rfl rfl)
theorem dX12_turns_15 : decode cX12_turns 15 = .ok (.aload_n 0, 1) := dk_42 (dk_at dksX12_turns_0 15 rfl rfl)
theorem dX12_turns_16 : decode cX12_turns 16 = .ok (.getfield 24, 3) := dk_180 0 24 (dk_at dksX12_turns_0 16 rfl rfl)
theorem dX12_turns_19 : decode cX12_turns 19 = .ok (.bipush 6, 2) := dk_16 6 (dk_at dksX12_turns_0 19 rfl rfl)
theorem dX12_turns_21 : decode cX12_turns 21 = .ok (.iload_n 2, 1) := dk_28 (dk_at dksX12_turns_0 21 rfl rfl)
theorem dX12_turns_22 : decode cX12_turns 22 = .ok (.imul, 1) := dk_104 (dk_at dksX12_turns_0 22 rfl rfl)
theorem dX12_turns_23 : decode cX12_turns 23 = .ok (.iload_n 1, 1) := dk_27 (dk_at dksX12_turns_0 23 rfl rfl)
theorem dX12_turns_24 : decode cX12_turns 24 = .ok (.iadd, 1) := dk_96 (dk_at dksX12_turns_1 0 rfl rfl)
theorem dX12_turns_25 : decode cX12_turns 25 = .ok (.dup2, 1) := dk_92 (dk_at dksX12_turns_1 1 rfl rfl)
theorem dX12_turns_26 : decode cX12_turns 26 = .ok (.baload, 1) := dk_51 (dk_at dksX12_turns_1 2 rfl rfl)
theorem dX12_turns_27 : decode cX12_turns 27 = .ok (.iconst 1, 1) := dk_4 (dk_at dksX12_turns_1 3 rfl rfl)
theorem dX12_turns_28 : decode cX12_turns 28 = .ok (.ixor, 1) := dk_130 (dk_at dksX12_turns_1 4 rfl rfl)
theorem dX12_turns_29 : decode cX12_turns 29 = .ok (.bastore, 1) := dk_84 (dk_at dksX12_turns_1 5 rfl rfl)
theorem dX12_turns_30 : decode cX12_turns 30 = .ok (.return_, 1) := dk_177 (dk_at dksX12_turns_1 6 rfl rfl)
abbrev cX12_entries : ByteArray := prog_9_method_5_code
def yX12_entries : MethodName := ⟨RX12, "entries", "()I"⟩
def dkwX12_entries_1 : List UInt8 := [185, 0, 67, 1, 0, 192, 0, 43, 78, 27, 45, 180, 0, 71, 182, 0, 74, 96, 60, 167, 255, 227, 27, 172]
abbrev dktX12_entries_1 : List UInt8 := dkwX12_entries_1 ++ []
def dkwX12_entries_0 : List UInt8 := [3, 60, 42, 180, 0, 14, 182, 0, 57, 77, 44, 185, 0, 61, 1, 0, 153, 0, 26, 44]
abbrev dktX12_entries_0 : List UInt8 := dkwX12_entries_0 ++ dktX12_entries_1
theorem dksX12_entries_0 : cX12_entries.data.toList.drop 0 = dktX12_entries_0 := by decide +kernel
theorem dksX12_entries_1 : cX12_entries.data.toList.drop 20 = dktX12_entries_1 := dk_seg dksX12_entries_0 20 rfl rfl
theorem dX12_entries_0 : decode cX12_entries 0 = .ok (.iconst 0, 1) := dk_3 (dk_at dksX12_entries_0 0 rfl rfl)
theorem dX12_entries_1 : decode cX12_entries 1 = .ok (.istore_n 1, 1) := dk_60 (dk_at dksX12_entries_0 1 rfl rfl)
theorem dX12_entries_2 : decode cX12_entries 2 = .ok (.aload_n 0, 1) := dk_42 (dk_at dksX12_entries_0 2 rfl rfl)
theorem dX12_entries_3 : decode cX12_entries 3 = .ok (.getfield 14, 3) := dk_180 0 14 (dk_at dksX12_entries_0 3 rfl rfl)
theorem dX12_entries_6 : decode cX12_entries 6 = .ok (.invokevirtual 57, 3) := dk_182 0 57 (dk_at dksX12_entries_0 6 rfl rfl)
theorem dX12_entries_9 : decode cX12_entries 9 = .ok (.astore_n 2, 1) := dk_77 (dk_at dksX12_entries_0 9 rfl rfl)
theorem dX12_entries_10 : decode cX12_entries 10 = .ok (.aload_n 2, 1) := dk_44 (dk_at dksX12_entries_0 10 rfl rfl)
theorem dX12_entries_11 : decode cX12_entries 11 = .ok (.invokeinterface 61 1, 5) := by decide +kernel
theorem dX12_entries_16 : decode cX12_entries 16 = .ok (.ifCond .eq 26, 3) := dk_153 0 26 (dk_at dksX12_entries_0 16 rfl rfl)
theorem dX12_entries_19 : decode cX12_entries 19 = .ok (.aload_n 2, 1) := dk_44 (dk_at dksX12_entries_0 19 rfl rfl)
theorem dX12_entries_20 : decode cX12_entries 20 = .ok (.invokeinterface 67 1, 5) := by decide +kernel
theorem dX12_entries_25 : decode cX12_entries 25 = .ok (.checkcast 43, 3) := dk_192 0 43 (dk_at dksX12_entries_1 5 rfl rfl)
theorem dX12_entries_28 : decode cX12_entries 28 = .ok (.astore_n 3, 1) := dk_78 (dk_at dksX12_entries_1 8 rfl rfl)
theorem dX12_entries_29 : decode cX12_entries 29 = .ok (.iload_n 1, 1) := dk_27 (dk_at dksX12_entries_1 9 rfl rfl)
theorem dX12_entries_30 : decode cX12_entries 30 = .ok (.aload_n 3, 1) := dk_45 (dk_at dksX12_entries_1 10 rfl rfl)
theorem dX12_entries_31 : decode cX12_entries 31 = .ok (.getfield 71, 3) := dk_180 0 71 (dk_at dksX12_entries_1 11 rfl rfl)
theorem dX12_entries_34 : decode cX12_entries 34 = .ok (.invokevirtual 74, 3) := dk_182 0 74 (dk_at dksX12_entries_1 14 rfl rfl)
theorem dX12_entries_37 : decode cX12_entries 37 = .ok (.iadd, 1) := dk_96 (dk_at dksX12_entries_1 17 rfl rfl)
theorem dX12_entries_38 : decode cX12_entries 38 = .ok (.istore_n 1, 1) := dk_60 (dk_at dksX12_entries_1 18 rfl rfl)
theorem dX12_entries_39 : decode cX12_entries 39 = .ok (.goto (-29), 3) := dk_167 255 227 (dk_at dksX12_entries_1 19 rfl rfl)
theorem dX12_entries_42 : decode cX12_entries 42 = .ok (.iload_n 1, 1) := dk_27 (dk_at dksX12_entries_1 22 rfl rfl)
theorem dX12_entries_43 : decode cX12_entries 43 = .ok (.ireturn, 1) := dk_172 (dk_at dksX12_entries_1 23 rfl rfl)
abbrev cX12_told : ByteArray := prog_9_method_24_code
def yX12_told : MethodName := ⟨RX12, "told", "(I)I"⟩
def dkwX12_told_8 : List UInt8 := [162, 0, 14, 25, 4, 180, 1, 107, 182, 0, 74, 167, 0, 11, 25, 4, 180, 0, 156, 184, 1, 110, 172]
abbrev dktX12_told_8 : List UInt8 := dkwX12_told_8 ++ []
def dkwX12_told_7 : List UInt8 := [58, 4, 27, 16, 20, 162, 0, 14, 25, 4, 180, 0, 71, 182, 0, 74, 167, 0, 28, 27, 16, 30]
abbrev dktX12_told_7 : List UInt8 := dkwX12_told_7 ++ dktX12_told_8
def dkwX12_told_6 : List UInt8 := [180, 0, 34, 29, 182, 1, 103, 154, 0, 6, 16, 254, 172, 42, 180, 0, 14, 29, 182, 0, 148, 192, 0, 43]
abbrev dktX12_told_6 : List UInt8 := dkwX12_told_6 ++ dktX12_told_7
def dkwX12_told_5 : List UInt8 := [180, 0, 231, 29, 46, 167, 0, 5, 16, 254, 172, 27, 16, 10, 16, 39, 184, 1, 99, 153, 0, 14, 42]
abbrev dktX12_told_5 : List UInt8 := dkwX12_told_5 ++ dktX12_told_6
def dkwX12_told_4 : List UInt8 := [182, 1, 103, 153, 0, 28, 42, 180, 0, 14, 27, 16, 10, 108, 16, 10, 100, 182, 0, 148, 192, 0, 43]
abbrev dktX12_told_4 : List UInt8 := dkwX12_told_4 ++ dktX12_told_5
def dkwX12_told_3 : List UInt8 := [42, 180, 0, 34, 27, 16, 10, 108, 16, 10, 100, 182, 1, 103, 153, 0, 39, 42, 180, 0, 34, 29]
abbrev dktX12_told_3 : List UInt8 := dkwX12_told_3 ++ dktX12_told_4
def dkwX12_told_2 : List UInt8 := [172, 27, 16, 10, 112, 62, 27, 16, 100, 161, 0, 71, 27, 16, 100, 17, 0, 159, 184, 1, 99, 153, 0, 56]
abbrev dktX12_told_2 : List UInt8 := dkwX12_told_2 ++ dktX12_told_3
def dkwX12_told_1 : List UInt8 := [182, 1, 94, 79, 89, 6, 42, 182, 1, 96, 79, 77, 27, 3, 6, 184, 1, 99, 153, 0, 7, 44, 27, 46]
abbrev dktX12_told_1 : List UInt8 := dkwX12_told_1 ++ dktX12_told_2
def dkwX12_told_0 : List UInt8 := [7, 188, 10, 89, 3, 42, 180, 0, 78, 79, 89, 4, 42, 180, 0, 21, 182, 0, 74, 79, 89, 5, 42]
abbrev dktX12_told_0 : List UInt8 := dkwX12_told_0 ++ dktX12_told_1
theorem dksX12_told_0 : cX12_told.data.toList.drop 0 = dktX12_told_0 := by decide +kernel
theorem dksX12_told_1 : cX12_told.data.toList.drop 23 = dktX12_told_1 := dk_seg dksX12_told_0 23 rfl rfl
theorem dksX12_told_2 : cX12_told.data.toList.drop 47 = dktX12_told_2 := dk_seg dksX12_told_1 24 rfl rfl
theorem dksX12_told_3 : cX12_told.data.toList.drop 71 = dktX12_told_3 := dk_seg dksX12_told_2 24 rfl rfl
theorem dksX12_told_4 : cX12_told.data.toList.drop 93 = dktX12_told_4 := dk_seg dksX12_told_3 22 rfl rfl
theorem dksX12_told_5 : cX12_told.data.toList.drop 116 = dktX12_told_5 := dk_seg dksX12_told_4 23 rfl rfl
theorem dksX12_told_6 : cX12_told.data.toList.drop 139 = dktX12_told_6 := dk_seg dksX12_told_5 23 rfl rfl
theorem dksX12_told_7 : cX12_told.data.toList.drop 163 = dktX12_told_7 := dk_seg dksX12_told_6 24 rfl rfl
theorem dksX12_told_8 : cX12_told.data.toList.drop 185 = dktX12_told_8 := dk_seg dksX12_told_7 22 rfl rfl
theorem dX12_told_0 : decode cX12_told 0 = .ok (.iconst 4, 1) := dk_7 (dk_at dksX12_told_0 0 rfl rfl)
theorem dX12_told_1 : decode cX12_told 1 = .ok (.newarray .int, 2) := dk_188_10 (dk_at dksX12_told_0 1 rfl rfl)
theorem dX12_told_3 : decode cX12_told 3 = .ok (.dup, 1) := dk_89 (dk_at dksX12_told_0 3 rfl rfl)
theorem dX12_told_4 : decode cX12_told 4 = .ok (.iconst 0, 1) := dk_3 (dk_at dksX12_told_0 4 rfl rfl)
theorem dX12_told_5 : decode cX12_told 5 = .ok (.aload_n 0, 1) := dk_42 (dk_at dksX12_told_0 5 rfl rfl)
theorem dX12_told_6 : decode cX12_told 6 = .ok (.getfield 78, 3) := dk_180 0 78 (dk_at dksX12_told_0 6 rfl rfl)
theorem dX12_told_9 : decode cX12_told 9 = .ok (.iastore, 1) := dk_79 (dk_at dksX12_told_0 9 rfl rfl)
theorem dX12_told_10 : decode cX12_told 10 = .ok (.dup, 1) := dk_89 (dk_at dksX12_told_0 10 rfl rfl)
theorem dX12_told_11 : decode cX12_told 11 = .ok (.iconst 1, 1) := dk_4 (dk_at dksX12_told_0 11 rfl rfl)
theorem dX12_told_12 : decode cX12_told 12 = .ok (.aload_n 0, 1) := dk_42 (dk_at dksX12_told_0 12 rfl rfl)
theorem dX12_told_13 : decode cX12_told 13 = .ok (.getfield 21, 3) := dk_180 0 21 (dk_at dksX12_told_0 13 rfl rfl)
theorem dX12_told_16 : decode cX12_told 16 = .ok (.invokevirtual 74, 3) := dk_182 0 74 (dk_at dksX12_told_0 16 rfl rfl)
theorem dX12_told_19 : decode cX12_told 19 = .ok (.iastore, 1) := dk_79 (dk_at dksX12_told_0 19 rfl rfl)
theorem dX12_told_20 : decode cX12_told 20 = .ok (.dup, 1) := dk_89 (dk_at dksX12_told_0 20 rfl rfl)
theorem dX12_told_21 : decode cX12_told 21 = .ok (.iconst 2, 1) := dk_5 (dk_at dksX12_told_0 21 rfl rfl)
theorem dX12_told_22 : decode cX12_told 22 = .ok (.aload_n 0, 1) := dk_42 (dk_at dksX12_told_0 22 rfl rfl)
theorem dX12_told_23 : decode cX12_told 23 = .ok (.invokevirtual 350, 3) := dk_182 1 94 (dk_at dksX12_told_1 0 rfl rfl)
theorem dX12_told_26 : decode cX12_told 26 = .ok (.iastore, 1) := dk_79 (dk_at dksX12_told_1 3 rfl rfl)
theorem dX12_told_27 : decode cX12_told 27 = .ok (.dup, 1) := dk_89 (dk_at dksX12_told_1 4 rfl rfl)
theorem dX12_told_28 : decode cX12_told 28 = .ok (.iconst 3, 1) := dk_6 (dk_at dksX12_told_1 5 rfl rfl)
theorem dX12_told_29 : decode cX12_told 29 = .ok (.aload_n 0, 1) := dk_42 (dk_at dksX12_told_1 6 rfl rfl)
theorem dX12_told_30 : decode cX12_told 30 = .ok (.invokevirtual 352, 3) := dk_182 1 96 (dk_at dksX12_told_1 7 rfl rfl)
theorem dX12_told_33 : decode cX12_told 33 = .ok (.iastore, 1) := dk_79 (dk_at dksX12_told_1 10 rfl rfl)
theorem dX12_told_34 : decode cX12_told 34 = .ok (.astore_n 2, 1) := dk_77 (dk_at dksX12_told_1 11 rfl rfl)
theorem dX12_told_35 : decode cX12_told 35 = .ok (.iload_n 1, 1) := dk_27 (dk_at dksX12_told_1 12 rfl rfl)
theorem dX12_told_36 : decode cX12_told 36 = .ok (.iconst 0, 1) := dk_3 (dk_at dksX12_told_1 13 rfl rfl)
theorem dX12_told_37 : decode cX12_told 37 = .ok (.iconst 3, 1) := dk_6 (dk_at dksX12_told_1 14 rfl rfl)
theorem dX12_told_38 : decode cX12_told 38 = .ok (.invokestatic 355, 3) := dk_184 1 99 (dk_at dksX12_told_1 15 rfl rfl)
theorem dX12_told_41 : decode cX12_told 41 = .ok (.ifCond .eq 7, 3) := dk_153 0 7 (dk_at dksX12_told_1 18 rfl rfl)
theorem dX12_told_44 : decode cX12_told 44 = .ok (.aload_n 2, 1) := dk_44 (dk_at dksX12_told_1 21 rfl rfl)
theorem dX12_told_45 : decode cX12_told 45 = .ok (.iload_n 1, 1) := dk_27 (dk_at dksX12_told_1 22 rfl rfl)
theorem dX12_told_46 : decode cX12_told 46 = .ok (.iaload, 1) := dk_46 (dk_at dksX12_told_1 23 rfl rfl)
theorem dX12_told_47 : decode cX12_told 47 = .ok (.ireturn, 1) := dk_172 (dk_at dksX12_told_2 0 rfl rfl)
theorem dX12_told_48 : decode cX12_told 48 = .ok (.iload_n 1, 1) := dk_27 (dk_at dksX12_told_2 1 rfl rfl)
theorem dX12_told_49 : decode cX12_told 49 = .ok (.bipush 10, 2) := dk_16 10 (dk_at dksX12_told_2 2 rfl rfl)
theorem dX12_told_51 : decode cX12_told 51 = .ok (.irem, 1) := dk_112 (dk_at dksX12_told_2 4 rfl rfl)
theorem dX12_told_52 : decode cX12_told 52 = .ok (.istore_n 3, 1) := dk_62 (dk_at dksX12_told_2 5 rfl rfl)
theorem dX12_told_53 : decode cX12_told 53 = .ok (.iload_n 1, 1) := dk_27 (dk_at dksX12_told_2 6 rfl rfl)
theorem dX12_told_54 : decode cX12_told 54 = .ok (.bipush 100, 2) := dk_16 100 (dk_at dksX12_told_2 7 rfl rfl)
theorem dX12_told_56 : decode cX12_told 56 = .ok (.if_icmp .lt 71, 3) := dk_161 0 71 (dk_at dksX12_told_2 9 rfl rfl)
theorem dX12_told_59 : decode cX12_told 59 = .ok (.iload_n 1, 1) := dk_27 (dk_at dksX12_told_2 12 rfl rfl)
theorem dX12_told_60 : decode cX12_told 60 = .ok (.bipush 100, 2) := dk_16 100 (dk_at dksX12_told_2 13 rfl rfl)
theorem dX12_told_62 : decode cX12_told 62 = .ok (.sipush 159, 3) := dk_17 0 159 (dk_at dksX12_told_2 15 rfl rfl)
theorem dX12_told_65 : decode cX12_told 65 = .ok (.invokestatic 355, 3) := dk_184 1 99 (dk_at dksX12_told_2 18 rfl rfl)
theorem dX12_told_68 : decode cX12_told 68 = .ok (.ifCond .eq 56, 3) := dk_153 0 56 (dk_at dksX12_told_2 21 rfl rfl)
theorem dX12_told_71 : decode cX12_told 71 = .ok (.aload_n 0, 1) := dk_42 (dk_at dksX12_told_3 0 rfl rfl)
theorem dX12_told_72 : decode cX12_told 72 = .ok (.getfield 34, 3) := dk_180 0 34 (dk_at dksX12_told_3 1 rfl rfl)
theorem dX12_told_75 : decode cX12_told 75 = .ok (.iload_n 1, 1) := dk_27 (dk_at dksX12_told_3 4 rfl rfl)
theorem dX12_told_76 : decode cX12_told 76 = .ok (.bipush 10, 2) := dk_16 10 (dk_at dksX12_told_3 5 rfl rfl)
theorem dX12_told_78 : decode cX12_told 78 = .ok (.idiv, 1) := dk_108 (dk_at dksX12_told_3 7 rfl rfl)
theorem dX12_told_79 : decode cX12_told 79 = .ok (.bipush 10, 2) := dk_16 10 (dk_at dksX12_told_3 8 rfl rfl)
theorem dX12_told_81 : decode cX12_told 81 = .ok (.isub, 1) := dk_100 (dk_at dksX12_told_3 10 rfl rfl)
theorem dX12_told_82 : decode cX12_told 82 = .ok (.invokevirtual 359, 3) := dk_182 1 103 (dk_at dksX12_told_3 11 rfl rfl)
theorem dX12_told_85 : decode cX12_told 85 = .ok (.ifCond .eq 39, 3) := dk_153 0 39 (dk_at dksX12_told_3 14 rfl rfl)
theorem dX12_told_88 : decode cX12_told 88 = .ok (.aload_n 0, 1) := dk_42 (dk_at dksX12_told_3 17 rfl rfl)
theorem dX12_told_89 : decode cX12_told 89 = .ok (.getfield 34, 3) := dk_180 0 34 (dk_at dksX12_told_3 18 rfl rfl)
theorem dX12_told_92 : decode cX12_told 92 = .ok (.iload_n 3, 1) := dk_29 (dk_at dksX12_told_3 21 rfl rfl)
theorem dX12_told_93 : decode cX12_told 93 = .ok (.invokevirtual 359, 3) := dk_182 1 103 (dk_at dksX12_told_4 0 rfl rfl)
theorem dX12_told_96 : decode cX12_told 96 = .ok (.ifCond .eq 28, 3) := dk_153 0 28 (dk_at dksX12_told_4 3 rfl rfl)
theorem dX12_told_99 : decode cX12_told 99 = .ok (.aload_n 0, 1) := dk_42 (dk_at dksX12_told_4 6 rfl rfl)
theorem dX12_told_100 : decode cX12_told 100 = .ok (.getfield 14, 3) := dk_180 0 14 (dk_at dksX12_told_4 7 rfl rfl)
theorem dX12_told_103 : decode cX12_told 103 = .ok (.iload_n 1, 1) := dk_27 (dk_at dksX12_told_4 10 rfl rfl)
theorem dX12_told_104 : decode cX12_told 104 = .ok (.bipush 10, 2) := dk_16 10 (dk_at dksX12_told_4 11 rfl rfl)
theorem dX12_told_106 : decode cX12_told 106 = .ok (.idiv, 1) := dk_108 (dk_at dksX12_told_4 13 rfl rfl)
theorem dX12_told_107 : decode cX12_told 107 = .ok (.bipush 10, 2) := dk_16 10 (dk_at dksX12_told_4 14 rfl rfl)
theorem dX12_told_109 : decode cX12_told 109 = .ok (.isub, 1) := dk_100 (dk_at dksX12_told_4 16 rfl rfl)
theorem dX12_told_110 : decode cX12_told 110 = .ok (.invokevirtual 148, 3) := dk_182 0 148 (dk_at dksX12_told_4 17 rfl rfl)
theorem dX12_told_113 : decode cX12_told 113 = .ok (.checkcast 43, 3) := dk_192 0 43 (dk_at dksX12_told_4 20 rfl rfl)
theorem dX12_told_116 : decode cX12_told 116 = .ok (.getfield 231, 3) := dk_180 0 231 (dk_at dksX12_told_5 0 rfl rfl)
theorem dX12_told_119 : decode cX12_told 119 = .ok (.iload_n 3, 1) := dk_29 (dk_at dksX12_told_5 3 rfl rfl)
theorem dX12_told_120 : decode cX12_told 120 = .ok (.iaload, 1) := dk_46 (dk_at dksX12_told_5 4 rfl rfl)
theorem dX12_told_121 : decode cX12_told 121 = .ok (.goto 5, 3) := dk_167 0 5 (dk_at dksX12_told_5 5 rfl rfl)
theorem dX12_told_124 : decode cX12_told 124 = .ok (.bipush (-2), 2) := dk_16 254 (dk_at dksX12_told_5 8 rfl rfl)
theorem dX12_told_126 : decode cX12_told 126 = .ok (.ireturn, 1) := dk_172 (dk_at dksX12_told_5 10 rfl rfl)
theorem dX12_told_127 : decode cX12_told 127 = .ok (.iload_n 1, 1) := dk_27 (dk_at dksX12_told_5 11 rfl rfl)
theorem dX12_told_128 : decode cX12_told 128 = .ok (.bipush 10, 2) := dk_16 10 (dk_at dksX12_told_5 12 rfl rfl)
theorem dX12_told_130 : decode cX12_told 130 = .ok (.bipush 39, 2) := dk_16 39 (dk_at dksX12_told_5 14 rfl rfl)
theorem dX12_told_132 : decode cX12_told 132 = .ok (.invokestatic 355, 3) := dk_184 1 99 (dk_at dksX12_told_5 16 rfl rfl)
theorem dX12_told_135 : decode cX12_told 135 = .ok (.ifCond .eq 14, 3) := dk_153 0 14 (dk_at dksX12_told_5 19 rfl rfl)
theorem dX12_told_138 : decode cX12_told 138 = .ok (.aload_n 0, 1) := dk_42 (dk_at dksX12_told_5 22 rfl rfl)
theorem dX12_told_139 : decode cX12_told 139 = .ok (.getfield 34, 3) := dk_180 0 34 (dk_at dksX12_told_6 0 rfl rfl)
theorem dX12_told_142 : decode cX12_told 142 = .ok (.iload_n 3, 1) := dk_29 (dk_at dksX12_told_6 3 rfl rfl)
theorem dX12_told_143 : decode cX12_told 143 = .ok (.invokevirtual 359, 3) := dk_182 1 103 (dk_at dksX12_told_6 4 rfl rfl)
theorem dX12_told_146 : decode cX12_told 146 = .ok (.ifCond .ne 6, 3) := dk_154 0 6 (dk_at dksX12_told_6 7 rfl rfl)
theorem dX12_told_149 : decode cX12_told 149 = .ok (.bipush (-2), 2) := dk_16 254 (dk_at dksX12_told_6 10 rfl rfl)
theorem dX12_told_151 : decode cX12_told 151 = .ok (.ireturn, 1) := dk_172 (dk_at dksX12_told_6 12 rfl rfl)
theorem dX12_told_152 : decode cX12_told 152 = .ok (.aload_n 0, 1) := dk_42 (dk_at dksX12_told_6 13 rfl rfl)
theorem dX12_told_153 : decode cX12_told 153 = .ok (.getfield 14, 3) := dk_180 0 14 (dk_at dksX12_told_6 14 rfl rfl)
theorem dX12_told_156 : decode cX12_told 156 = .ok (.iload_n 3, 1) := dk_29 (dk_at dksX12_told_6 17 rfl rfl)
theorem dX12_told_157 : decode cX12_told 157 = .ok (.invokevirtual 148, 3) := dk_182 0 148 (dk_at dksX12_told_6 18 rfl rfl)
theorem dX12_told_160 : decode cX12_told 160 = .ok (.checkcast 43, 3) := dk_192 0 43 (dk_at dksX12_told_6 21 rfl rfl)
theorem dX12_told_163 : decode cX12_told 163 = .ok (.astore 4, 2) := dk_58 4 (dk_at dksX12_told_7 0 rfl rfl)
theorem dX12_told_165 : decode cX12_told 165 = .ok (.iload_n 1, 1) := dk_27 (dk_at dksX12_told_7 2 rfl rfl)
theorem dX12_told_166 : decode cX12_told 166 = .ok (.bipush 20, 2) := dk_16 20 (dk_at dksX12_told_7 3 rfl rfl)
theorem dX12_told_168 : decode cX12_told 168 = .ok (.if_icmp .ge 14, 3) := dk_162 0 14 (dk_at dksX12_told_7 5 rfl rfl)
theorem dX12_told_171 : decode cX12_told 171 = .ok (.aload 4, 2) := dk_25 4 (dk_at dksX12_told_7 8 rfl rfl)
theorem dX12_told_173 : decode cX12_told 173 = .ok (.getfield 71, 3) := dk_180 0 71 (dk_at dksX12_told_7 10 rfl rfl)
theorem dX12_told_176 : decode cX12_told 176 = .ok (.invokevirtual 74, 3) := dk_182 0 74 (dk_at dksX12_told_7 13 rfl rfl)
theorem dX12_told_179 : decode cX12_told 179 = .ok (.goto 28, 3) := dk_167 0 28 (dk_at dksX12_told_7 16 rfl rfl)
theorem dX12_told_182 : decode cX12_told 182 = .ok (.iload_n 1, 1) := dk_27 (dk_at dksX12_told_7 19 rfl rfl)
theorem dX12_told_183 : decode cX12_told 183 = .ok (.bipush 30, 2) := dk_16 30 (dk_at dksX12_told_7 20 rfl rfl)
theorem dX12_told_185 : decode cX12_told 185 = .ok (.if_icmp .ge 14, 3) := dk_162 0 14 (dk_at dksX12_told_8 0 rfl rfl)
theorem dX12_told_188 : decode cX12_told 188 = .ok (.aload 4, 2) := dk_25 4 (dk_at dksX12_told_8 3 rfl rfl)
theorem dX12_told_190 : decode cX12_told 190 = .ok (.getfield 363, 3) := dk_180 1 107 (dk_at dksX12_told_8 5 rfl rfl)
theorem dX12_told_193 : decode cX12_told 193 = .ok (.invokevirtual 74, 3) := dk_182 0 74 (dk_at dksX12_told_8 8 rfl rfl)
theorem dX12_told_196 : decode cX12_told 196 = .ok (.goto 11, 3) := dk_167 0 11 (dk_at dksX12_told_8 11 rfl rfl)
theorem dX12_told_199 : decode cX12_told 199 = .ok (.aload 4, 2) := dk_25 4 (dk_at dksX12_told_8 14 rfl rfl)
theorem dX12_told_201 : decode cX12_told 201 = .ok (.getfield 156, 3) := dk_180 0 156 (dk_at dksX12_told_8 16 rfl rfl)
theorem dX12_told_204 : decode cX12_told 204 = .ok (.invokestatic 366, 3) := dk_184 1 110 (dk_at dksX12_told_8 19 rfl rfl)
theorem dX12_told_207 : decode cX12_told 207 = .ok (.ireturn, 1) := dk_172 (dk_at dksX12_told_8 22 rfl rfl)
abbrev cX12_cut : ByteArray := prog_9_method_4_code
def yX12_cut : MethodName := ⟨RX12, "cut", "()I"⟩
def dkwX12_cut_2 : List UInt8 := [51, 153, 0, 7, 4, 167, 0, 4, 3, 96, 60, 167, 255, 211, 27, 172]
abbrev dktX12_cut_2 : List UInt8 := dkwX12_cut_2 ++ []
def dkwX12_cut_1 : List UInt8 := [185, 0, 67, 1, 0, 192, 0, 28, 78, 27, 42, 180, 0, 24, 16, 6, 45, 3, 46, 104, 45, 4, 46, 96]
abbrev dktX12_cut_1 : List UInt8 := dkwX12_cut_1 ++ dktX12_cut_2
def dkwX12_cut_0 : List UInt8 := [3, 60, 42, 180, 0, 34, 180, 0, 54, 182, 0, 57, 77, 44, 185, 0, 61, 1, 0, 153, 0, 42, 44]
abbrev dktX12_cut_0 : List UInt8 := dkwX12_cut_0 ++ dktX12_cut_1
theorem dksX12_cut_0 : cX12_cut.data.toList.drop 0 = dktX12_cut_0 := by decide +kernel
theorem dksX12_cut_1 : cX12_cut.data.toList.drop 23 = dktX12_cut_1 := dk_seg dksX12_cut_0 23 rfl rfl
theorem dksX12_cut_2 : cX12_cut.data.toList.drop 47 = dktX12_cut_2 := dk_seg dksX12_cut_1 24 rfl rfl
theorem dX12_cut_0 : decode cX12_cut 0 = .ok (.iconst 0, 1) := dk_3 (dk_at dksX12_cut_0 0 rfl rfl)
theorem dX12_cut_1 : decode cX12_cut 1 = .ok (.istore_n 1, 1) := dk_60 (dk_at dksX12_cut_0 1 rfl rfl)
theorem dX12_cut_2 : decode cX12_cut 2 = .ok (.aload_n 0, 1) := dk_42 (dk_at dksX12_cut_0 2 rfl rfl)
theorem dX12_cut_3 : decode cX12_cut 3 = .ok (.getfield 34, 3) := dk_180 0 34 (dk_at dksX12_cut_0 3 rfl rfl)
theorem dX12_cut_6 : decode cX12_cut 6 = .ok (.getfield 54, 3) := dk_180 0 54 (dk_at dksX12_cut_0 6 rfl rfl)
theorem dX12_cut_9 : decode cX12_cut 9 = .ok (.invokevirtual 57, 3) := dk_182 0 57 (dk_at dksX12_cut_0 9 rfl rfl)
theorem dX12_cut_12 : decode cX12_cut 12 = .ok (.astore_n 2, 1) := dk_77 (dk_at dksX12_cut_0 12 rfl rfl)
theorem dX12_cut_13 : decode cX12_cut 13 = .ok (.aload_n 2, 1) := dk_44 (dk_at dksX12_cut_0 13 rfl rfl)
theorem dX12_cut_14 : decode cX12_cut 14 = .ok (.invokeinterface 61 1, 5) := by decide +kernel
theorem dX12_cut_19 : decode cX12_cut 19 = .ok (.ifCond .eq 42, 3) := dk_153 0 42 (dk_at dksX12_cut_0 19 rfl rfl)
theorem dX12_cut_22 : decode cX12_cut 22 = .ok (.aload_n 2, 1) := dk_44 (dk_at dksX12_cut_0 22 rfl rfl)
theorem dX12_cut_23 : decode cX12_cut 23 = .ok (.invokeinterface 67 1, 5) := by decide +kernel
theorem dX12_cut_28 : decode cX12_cut 28 = .ok (.checkcast 28, 3) := dk_192 0 28 (dk_at dksX12_cut_1 5 rfl rfl)
theorem dX12_cut_31 : decode cX12_cut 31 = .ok (.astore_n 3, 1) := dk_78 (dk_at dksX12_cut_1 8 rfl rfl)
theorem dX12_cut_32 : decode cX12_cut 32 = .ok (.iload_n 1, 1) := dk_27 (dk_at dksX12_cut_1 9 rfl rfl)
theorem dX12_cut_33 : decode cX12_cut 33 = .ok (.aload_n 0, 1) := dk_42 (dk_at dksX12_cut_1 10 rfl rfl)
theorem dX12_cut_34 : decode cX12_cut 34 = .ok (.getfield 24, 3) := dk_180 0 24 (dk_at dksX12_cut_1 11 rfl rfl)
theorem dX12_cut_37 : decode cX12_cut 37 = .ok (.bipush 6, 2) := dk_16 6 (dk_at dksX12_cut_1 14 rfl rfl)
theorem dX12_cut_39 : decode cX12_cut 39 = .ok (.aload_n 3, 1) := dk_45 (dk_at dksX12_cut_1 16 rfl rfl)
theorem dX12_cut_40 : decode cX12_cut 40 = .ok (.iconst 0, 1) := dk_3 (dk_at dksX12_cut_1 17 rfl rfl)
theorem dX12_cut_41 : decode cX12_cut 41 = .ok (.iaload, 1) := dk_46 (dk_at dksX12_cut_1 18 rfl rfl)
theorem dX12_cut_42 : decode cX12_cut 42 = .ok (.imul, 1) := dk_104 (dk_at dksX12_cut_1 19 rfl rfl)
theorem dX12_cut_43 : decode cX12_cut 43 = .ok (.aload_n 3, 1) := dk_45 (dk_at dksX12_cut_1 20 rfl rfl)
theorem dX12_cut_44 : decode cX12_cut 44 = .ok (.iconst 1, 1) := dk_4 (dk_at dksX12_cut_1 21 rfl rfl)
theorem dX12_cut_45 : decode cX12_cut 45 = .ok (.iaload, 1) := dk_46 (dk_at dksX12_cut_1 22 rfl rfl)
theorem dX12_cut_46 : decode cX12_cut 46 = .ok (.iadd, 1) := dk_96 (dk_at dksX12_cut_1 23 rfl rfl)
theorem dX12_cut_47 : decode cX12_cut 47 = .ok (.baload, 1) := dk_51 (dk_at dksX12_cut_2 0 rfl rfl)
theorem dX12_cut_48 : decode cX12_cut 48 = .ok (.ifCond .eq 7, 3) := dk_153 0 7 (dk_at dksX12_cut_2 1 rfl rfl)
theorem dX12_cut_51 : decode cX12_cut 51 = .ok (.iconst 1, 1) := dk_4 (dk_at dksX12_cut_2 4 rfl rfl)
theorem dX12_cut_52 : decode cX12_cut 52 = .ok (.goto 4, 3) := dk_167 0 4 (dk_at dksX12_cut_2 5 rfl rfl)
theorem dX12_cut_55 : decode cX12_cut 55 = .ok (.iconst 0, 1) := dk_3 (dk_at dksX12_cut_2 8 rfl rfl)
theorem dX12_cut_56 : decode cX12_cut 56 = .ok (.iadd, 1) := dk_96 (dk_at dksX12_cut_2 9 rfl rfl)
theorem dX12_cut_57 : decode cX12_cut 57 = .ok (.istore_n 1, 1) := dk_60 (dk_at dksX12_cut_2 10 rfl rfl)
theorem dX12_cut_58 : decode cX12_cut 58 = .ok (.goto (-45), 3) := dk_167 255 211 (dk_at dksX12_cut_2 11 rfl rfl)
theorem dX12_cut_61 : decode cX12_cut 61 = .ok (.iload_n 1, 1) := dk_27 (dk_at dksX12_cut_2 14 rfl rfl)
theorem dX12_cut_62 : decode cX12_cut 62 = .ok (.ireturn, 1) := dk_172 (dk_at dksX12_cut_2 15 rfl rfl)
theorem q157 : (Jvm.Cond.initialized "AskedNames$Going") ∈ lw_all := lw_g (lw_at lw_m1 32 rfl) rfl
theorem q529 : (Jvm.Cond.fieldLinkNest "AskedNames$Going" (38 : Nat) "AskedNames$Net" "nodes" "I" "AskedNames") ∈ lw_tbl := lw_at lw_m2 164 rfl
theorem q535 : (Jvm.Cond.fieldLinkNest "AskedNames$Going" (198 : Nat) "AskedNames$Net" "life" "I" "AskedNames") ∈ lw_tbl := lw_at lw_m2 170 rfl
theorem q540 : (Jvm.Cond.fieldLinkNest "AskedNames$Going" (293 : Nat) "AskedNames$Net" "room" "[I" "AskedNames") ∈ lw_tbl := lw_at lw_m2 175 rfl
theorem q546 : (Jvm.Cond.fieldLinkNest "AskedNames$Going" (54 : Nat) "AskedNames$Net" "links" "Ljava/util/ArrayList;" "AskedNames") ∈ lw_tbl := lw_at lw_m2 181 rfl
theorem q550 : (Jvm.Cond.fieldLinkNest "AskedNames$Going" (212 : Nat) "AskedNames$Net" "routes" "Ljava/util/ArrayList;" "AskedNames") ∈ lw_tbl := lw_at lw_m2 185 rfl
theorem q764 : (Jvm.Cond.selects "AskedNames$Going" ({ cls := "java/lang/Object", name := "getClass", desc := "()Ljava/lang/Class;" } : Jvm.MethodName) ({ cls := "java/lang/Object", name := "getClass", desc := "()Ljava/lang/Class;" } : Jvm.MethodName)) ∈ lw_all := lw_g (lw_at lw_m3 159 rfl) rfl
theorem q857 : (Jvm.Cond.fieldLinkNest "AskedNames$Going" (215 : Nat) "AskedNames$Route" "node" "I" "AskedNames") ∈ lw_tbl := lw_at lw_m4 12 rfl
theorem q860 : (Jvm.Cond.fieldLinkNest "AskedNames$Going" (227 : Nat) "AskedNames$Route" "to" "I" "AskedNames") ∈ lw_tbl := lw_at lw_m4 15 rfl
theorem q864 : (Jvm.Cond.fieldLinkNest "AskedNames$Going" (184 : Nat) "AskedNames$Route" "cost" "I" "AskedNames") ∈ lw_tbl := lw_at lw_m4 19 rfl
theorem q869 : (Jvm.Cond.fieldLinkNest "AskedNames$Going" (217 : Nat) "AskedNames$Route" "name" "Ljava/lang/String;" "AskedNames") ∈ lw_tbl := lw_at lw_m4 24 rfl
theorem q1305 : (Jvm.Cond.instantiable "AskedNames$Going" (12 : Nat)) ∈ lw_all := lw_g (lw_at lw_m5 220 rfl) rfl
theorem q1307 : (Jvm.Cond.instanceMethod ({ cls := "AskedNames$Going", name := "<init>", desc := "(LAskedNames$Net;)V" } : Jvm.MethodName)) ∈ lw_all := lw_g (lw_at lw_m5 222 rfl) rfl
theorem q1308 : (Jvm.Cond.code ({ cls := "AskedNames$Going", name := "<init>", desc := "(LAskedNames$Net;)V" } : Jvm.MethodName) prog_9_method_1_code (3 : Nat) (Option.none : Option Jvm.ClassFile.FieldType)) ∈ lw_all := lw_g (lw_at lw_m5 223 rfl) rfl
theorem q1309 : (Jvm.Cond.methodLink "AskedNames$Going" (3 : Nat) ({ cls := "java/lang/Object", name := "<init>", desc := "()V" } : Jvm.MethodName)) ∈ lw_all := lw_g (lw_at lw_m5 224 rfl) rfl
theorem q1310 : (Jvm.Cond.classLink "AskedNames$Going" (9 : Nat) "java/util/ArrayList") ∈ lw_all := lw_g (lw_at lw_m5 225 rfl) rfl
theorem q1311 : (Jvm.Cond.methodLink "AskedNames$Going" (11 : Nat) ({ cls := "java/util/ArrayList", name := "<init>", desc := "(I)V" } : Jvm.MethodName)) ∈ lw_all := lw_g (lw_at lw_m5 226 rfl) rfl
theorem q1312 : (Jvm.Cond.methodLink "AskedNames$Going" (20 : Nat) ({ cls := "java/util/ArrayList", name := "<init>", desc := "()V" } : Jvm.MethodName)) ∈ lw_all := lw_g (lw_at lw_m5 227 rfl) rfl
theorem q1313 : (Jvm.Cond.classLink "AskedNames$Going" (28 : Nat) "[I") ∈ lw_all := lw_g (lw_at lw_m5 228 rfl) rfl
theorem q1315 : (Jvm.Cond.classLink "AskedNames$Going" (43 : Nat) "AskedNames$Node") ∈ lw_all := lw_g (lw_at lw_m5 230 rfl) rfl
theorem q1317 : (Jvm.Cond.methodLink "AskedNames$Going" (45 : Nat) ({ cls := "AskedNames$Node", name := "<init>", desc := "()V" } : Jvm.MethodName)) ∈ lw_all := lw_g (lw_at lw_m5 232 rfl) rfl
theorem q1326 : (Jvm.Cond.fieldLinkNest "AskedNames$Going" (363 : Nat) "AskedNames$Node" "store" "Ljava/util/ArrayList;" "AskedNames") ∈ lw_tbl := lw_at lw_m6 1 rfl
theorem q1329 : (Jvm.Cond.fieldLinkNest "AskedNames$Going" (71 : Nat) "AskedNames$Node" "entries" "Ljava/util/ArrayList;" "AskedNames") ∈ lw_tbl := lw_at lw_m6 4 rfl
theorem q1332 : (Jvm.Cond.fieldLinkNest "AskedNames$Going" (231 : Nat) "AskedNames$Node" "measured" "[I" "AskedNames") ∈ lw_tbl := lw_at lw_m6 7 rfl
theorem q1333 : (Jvm.Cond.fieldLinkNest "AskedNames$Going" (156 : Nat) "AskedNames$Node" "dead" "J" "AskedNames") ∈ lw_tbl := lw_at lw_m6 8 rfl
theorem q1344 : (Jvm.Cond.methodLink "AskedNames$Going" (46 : Nat) ({ cls := "java/util/ArrayList", name := "add", desc := "(Ljava/lang/Object;)Z" } : Jvm.MethodName)) ∈ lw_all := lw_g (lw_at lw_m6 19 rfl) rfl
theorem q1345 : (Jvm.Cond.fieldLink "AskedNames$Going" (34 : Nat) "AskedNames$Going" "net" "LAskedNames$Net;") ∈ lw_all := lw_g (lw_at lw_m6 20 rfl) rfl
theorem q1348 : (Jvm.Cond.fieldLink "AskedNames$Going" (14 : Nat) "AskedNames$Going" "nodes" "Ljava/util/ArrayList;") ∈ lw_all := lw_g (lw_at lw_m6 23 rfl) rfl
theorem q1350 : (Jvm.Cond.fieldLink "AskedNames$Going" (21 : Nat) "AskedNames$Going" "ways" "Ljava/util/ArrayList;") ∈ lw_all := lw_g (lw_at lw_m6 25 rfl) rfl
theorem q1351 : (Jvm.Cond.fieldLink "AskedNames$Going" (24 : Nat) "AskedNames$Going" "down" "[Z") ∈ lw_all := lw_g (lw_at lw_m6 26 rfl) rfl
theorem q1352 : (Jvm.Cond.fieldLink "AskedNames$Going" (30 : Nat) "AskedNames$Going" "ends" "[[I") ∈ lw_all := lw_g (lw_at lw_m6 27 rfl) rfl
theorem q1357 : (Jvm.Cond.fieldLink "AskedNames$Going" (78 : Nat) "AskedNames$Going" "minute" "I") ∈ lw_all := lw_g (lw_at lw_m6 32 rfl) rfl
theorem q1360 : (Jvm.Cond.fieldLink "AskedNames$Going" (95 : Nat) "AskedNames$Going" "sent" "I") ∈ lw_all := lw_g (lw_at lw_m6 35 rfl) rfl
theorem q1363 : (Jvm.Cond.fieldLink "AskedNames$Going" (177 : Nat) "AskedNames$Going" "hits" "I") ∈ lw_all := lw_g (lw_at lw_m6 38 rfl) rfl
theorem q1365 : (Jvm.Cond.fieldLink "AskedNames$Going" (192 : Nat) "AskedNames$Going" "joined" "I") ∈ lw_all := lw_g (lw_at lw_m6 40 rfl) rfl
theorem q1367 : (Jvm.Cond.fieldLink "AskedNames$Going" (165 : Nat) "AskedNames$Going" "loops" "I") ∈ lw_all := lw_g (lw_at lw_m6 42 rfl) rfl
theorem q1369 : (Jvm.Cond.fieldLink "AskedNames$Going" (290 : Nat) "AskedNames$Going" "dropped" "I") ∈ lw_all := lw_g (lw_at lw_m6 44 rfl) rfl
theorem q1371 : (Jvm.Cond.fieldLink "AskedNames$Going" (92 : Nat) "AskedNames$Going" "missed" "I") ∈ lw_all := lw_g (lw_at lw_m6 46 rfl) rfl
theorem q1372 : (Jvm.Cond.laysFinal "AskedNames$Going" "AskedNames$Going" "net" "LAskedNames$Net;") ∈ lw_all := lw_g (lw_at lw_m6 47 rfl) rfl
theorem q1373 : (Jvm.Cond.soleField "AskedNames$Going" "net") ∈ lw_all := lw_g (lw_at lw_m6 48 rfl) rfl
theorem q1374 : (Jvm.Cond.laysFinal "AskedNames$Going" "AskedNames$Going" "nodes" "Ljava/util/ArrayList;") ∈ lw_all := lw_g (lw_at lw_m6 49 rfl) rfl
theorem q1375 : (Jvm.Cond.soleField "AskedNames$Going" "nodes") ∈ lw_all := lw_g (lw_at lw_m6 50 rfl) rfl
theorem q1376 : (Jvm.Cond.laysFinal "AskedNames$Going" "AskedNames$Going" "ways" "Ljava/util/ArrayList;") ∈ lw_all := lw_g (lw_at lw_m6 51 rfl) rfl
theorem q1377 : (Jvm.Cond.soleField "AskedNames$Going" "ways") ∈ lw_all := lw_g (lw_at lw_m6 52 rfl) rfl
theorem q1378 : (Jvm.Cond.laysFinal "AskedNames$Going" "AskedNames$Going" "down" "[Z") ∈ lw_all := lw_g (lw_at lw_m6 53 rfl) rfl
theorem q1379 : (Jvm.Cond.soleField "AskedNames$Going" "down") ∈ lw_all := lw_g (lw_at lw_m6 54 rfl) rfl
theorem q1380 : (Jvm.Cond.laysFinal "AskedNames$Going" "AskedNames$Going" "ends" "[[I") ∈ lw_all := lw_g (lw_at lw_m6 55 rfl) rfl
theorem q1381 : (Jvm.Cond.soleField "AskedNames$Going" "ends") ∈ lw_all := lw_g (lw_at lw_m6 56 rfl) rfl
theorem q1382 : (Jvm.Cond.lays "AskedNames$Going" "AskedNames$Going" "minute" "I") ∈ lw_all := lw_g (lw_at lw_m6 57 rfl) rfl
theorem q1383 : (Jvm.Cond.soleField "AskedNames$Going" "minute") ∈ lw_all := lw_g (lw_at lw_m6 58 rfl) rfl
theorem q1384 : (Jvm.Cond.lays "AskedNames$Going" "AskedNames$Going" "sent" "I") ∈ lw_all := lw_g (lw_at lw_m6 59 rfl) rfl
theorem q1385 : (Jvm.Cond.soleField "AskedNames$Going" "sent") ∈ lw_all := lw_g (lw_at lw_m6 60 rfl) rfl
theorem q1386 : (Jvm.Cond.lays "AskedNames$Going" "AskedNames$Going" "hits" "I") ∈ lw_all := lw_g (lw_at lw_m6 61 rfl) rfl
theorem q1387 : (Jvm.Cond.soleField "AskedNames$Going" "hits") ∈ lw_all := lw_g (lw_at lw_m6 62 rfl) rfl
theorem q1388 : (Jvm.Cond.lays "AskedNames$Going" "AskedNames$Going" "joined" "I") ∈ lw_all := lw_g (lw_at lw_m6 63 rfl) rfl
theorem q1389 : (Jvm.Cond.soleField "AskedNames$Going" "joined") ∈ lw_all := lw_g (lw_at lw_m6 64 rfl) rfl
theorem q1390 : (Jvm.Cond.lays "AskedNames$Going" "AskedNames$Going" "loops" "I") ∈ lw_all := lw_g (lw_at lw_m6 65 rfl) rfl
theorem q1391 : (Jvm.Cond.soleField "AskedNames$Going" "loops") ∈ lw_all := lw_g (lw_at lw_m6 66 rfl) rfl
theorem q1392 : (Jvm.Cond.lays "AskedNames$Going" "AskedNames$Going" "dropped" "I") ∈ lw_all := lw_g (lw_at lw_m6 67 rfl) rfl
theorem q1393 : (Jvm.Cond.soleField "AskedNames$Going" "dropped") ∈ lw_all := lw_g (lw_at lw_m6 68 rfl) rfl
theorem q1394 : (Jvm.Cond.lays "AskedNames$Going" "AskedNames$Going" "missed" "I") ∈ lw_all := lw_g (lw_at lw_m6 69 rfl) rfl
theorem q1395 : (Jvm.Cond.soleField "AskedNames$Going" "missed") ∈ lw_all := lw_g (lw_at lw_m6 70 rfl) rfl
theorem q1396 : (Jvm.Cond.superclass "AskedNames$Going" "java/lang/Object") ∈ lw_all := lw_g (lw_at lw_m6 71 rfl) rfl
theorem q1398 : (Jvm.Cond.instanceMethod ({ cls := "AskedNames$Going", name := "ways", desc := "(ILjava/lang/String;I)I" } : Jvm.MethodName)) ∈ lw_all := lw_g (lw_at lw_m6 73 rfl) rfl
theorem q1399 : (Jvm.Cond.selects "AskedNames$Going" ({ cls := "AskedNames$Going", name := "ways", desc := "(ILjava/lang/String;I)I" } : Jvm.MethodName) ({ cls := "AskedNames$Going", name := "ways", desc := "(ILjava/lang/String;I)I" } : Jvm.MethodName)) ∈ lw_all := lw_g (lw_at lw_m6 74 rfl) rfl
theorem q1400 : (Jvm.Cond.code ({ cls := "AskedNames$Going", name := "ways", desc := "(ILjava/lang/String;I)I" } : Jvm.MethodName) prog_9_method_13_code (8 : Nat) (Option.some Jvm.ClassFile.FieldType.int)) ∈ lw_all := lw_g (lw_at lw_m6 75 rfl) rfl
theorem q1401 : (Jvm.Cond.methodLink "AskedNames$Going" (208 : Nat) ({ cls := "AskedNames$Net", name := "longest", desc := "(ILjava/lang/String;)I" } : Jvm.MethodName)) ∈ lw_all := lw_g (lw_at lw_m6 76 rfl) rfl
theorem q1402 : (Jvm.Cond.methodLink "AskedNames$Going" (74 : Nat) ({ cls := "java/util/ArrayList", name := "size", desc := "()I" } : Jvm.MethodName)) ∈ lw_all := lw_g (lw_at lw_m6 77 rfl) rfl
theorem q1403 : (Jvm.Cond.methodLink "AskedNames$Going" (148 : Nat) ({ cls := "java/util/ArrayList", name := "get", desc := "(I)Ljava/lang/Object;" } : Jvm.MethodName)) ∈ lw_all := lw_g (lw_at lw_m6 78 rfl) rfl
theorem q1404 : (Jvm.Cond.classLink "AskedNames$Going" (185 : Nat) "AskedNames$Route") ∈ lw_all := lw_g (lw_at lw_m6 79 rfl) rfl
theorem q1405 : (Jvm.Cond.methodLink "AskedNames$Going" (218 : Nat) ({ cls := "java/lang/String", name := "length", desc := "()I" } : Jvm.MethodName)) ∈ lw_all := lw_g (lw_at lw_m6 80 rfl) rfl
theorem q1406 : (Jvm.Cond.methodLink "AskedNames$Going" (223 : Nat) ({ cls := "java/lang/String", name := "startsWith", desc := "(Ljava/lang/String;)Z" } : Jvm.MethodName)) ∈ lw_all := lw_g (lw_at lw_m6 81 rfl) rfl
theorem q1407 : (Jvm.Cond.methodLink "AskedNames$Going" (89 : Nat) ({ cls := "AskedNames$Going", name := "isUp", desc := "(II)Z" } : Jvm.MethodName)) ∈ lw_all := lw_g (lw_at lw_m6 82 rfl) rfl
theorem q1408 : (Jvm.Cond.instanceMethod ({ cls := "AskedNames$Going", name := "isUp", desc := "(II)Z" } : Jvm.MethodName)) ∈ lw_all := lw_g (lw_at lw_m6 83 rfl) rfl
theorem q1409 : (Jvm.Cond.selects "AskedNames$Going" ({ cls := "AskedNames$Going", name := "isUp", desc := "(II)Z" } : Jvm.MethodName) ({ cls := "AskedNames$Going", name := "isUp", desc := "(II)Z" } : Jvm.MethodName)) ∈ lw_all := lw_g (lw_at lw_m6 84 rfl) rfl
theorem q1410 : (Jvm.Cond.code ({ cls := "AskedNames$Going", name := "isUp", desc := "(II)Z" } : Jvm.MethodName) prog_9_method_2_code (3 : Nat) (Option.some Jvm.ClassFile.FieldType.boolean)) ∈ lw_all := lw_g (lw_at lw_m6 85 rfl) rfl
theorem q1411 : (Jvm.Cond.methodLink "AskedNames$Going" (50 : Nat) ({ cls := "AskedNames$Net", name := "isLink", desc := "(II)Z" } : Jvm.MethodName)) ∈ lw_all := lw_g (lw_at lw_m6 86 rfl) rfl
theorem q1412 : (Jvm.Cond.methodLinkNest "AskedNames$Going" (228 : Nat) ({ cls := "AskedNames", name := "has", desc := "(II)Z" } : Jvm.MethodName) "AskedNames") ∈ lw_tbl := lw_at lw_m6 87 rfl
theorem q1420 : (Jvm.Cond.instanceMethod ({ cls := "AskedNames$Going", name := "trail", desc := "(ILjava/lang/String;)[I" } : Jvm.MethodName)) ∈ lw_all := lw_g (lw_at lw_m6 95 rfl) rfl
theorem q1421 : (Jvm.Cond.selects "AskedNames$Going" ({ cls := "AskedNames$Going", name := "trail", desc := "(ILjava/lang/String;)[I" } : Jvm.MethodName) ({ cls := "AskedNames$Going", name := "trail", desc := "(ILjava/lang/String;)[I" } : Jvm.MethodName)) ∈ lw_all := lw_g (lw_at lw_m6 96 rfl) rfl
theorem q1422 : (Jvm.Cond.code ({ cls := "AskedNames$Going", name := "trail", desc := "(ILjava/lang/String;)[I" } : Jvm.MethodName) prog_9_method_16_code (9 : Nat) (Option.some (Jvm.ClassFile.FieldType.array Jvm.ClassFile.FieldType.int))) ∈ lw_all := lw_g (lw_at lw_m6 97 rfl) rfl
theorem q1423 : (Jvm.Cond.methodLink "AskedNames$Going" (173 : Nat) ({ cls := "AskedNames$Net", name := "server", desc := "(ILjava/lang/String;)LAskedNames$Route;" } : Jvm.MethodName)) ∈ lw_all := lw_g (lw_at lw_m6 98 rfl) rfl
theorem q1427 : (Jvm.Cond.methodLink "AskedNames$Going" (246 : Nat) ({ cls := "AskedNames$Going", name := "best", desc := "(ILjava/lang/String;I)I" } : Jvm.MethodName)) ∈ lw_all := lw_g (lw_at lw_m6 102 rfl) rfl
theorem q1428 : (Jvm.Cond.privateMethod ({ cls := "AskedNames$Going", name := "best", desc := "(ILjava/lang/String;I)I" } : Jvm.MethodName)) ∈ lw_tbl := lw_at lw_m6 103 rfl
theorem q1429 : (Jvm.Cond.instanceMethod ({ cls := "AskedNames$Going", name := "best", desc := "(ILjava/lang/String;I)I" } : Jvm.MethodName)) ∈ lw_all := lw_g (lw_at lw_m6 104 rfl) rfl
theorem q1430 : (Jvm.Cond.code ({ cls := "AskedNames$Going", name := "best", desc := "(ILjava/lang/String;I)I" } : Jvm.MethodName) prog_9_method_15_code (7 : Nat) (Option.some Jvm.ClassFile.FieldType.int)) ∈ lw_all := lw_g (lw_at lw_m6 105 rfl) rfl
theorem q1431 : (Jvm.Cond.methodLink "AskedNames$Going" (240 : Nat) ({ cls := "AskedNames$Going", name := "ways", desc := "(ILjava/lang/String;I)I" } : Jvm.MethodName)) ∈ lw_all := lw_g (lw_at lw_m6 106 rfl) rfl
theorem q1432 : (Jvm.Cond.methodLink "AskedNames$Going" (243 : Nat) ({ cls := "AskedNames$Going", name := "worth", desc := "(ILjava/lang/String;I)I" } : Jvm.MethodName)) ∈ lw_all := lw_g (lw_at lw_m6 107 rfl) rfl
theorem q1433 : (Jvm.Cond.privateMethod ({ cls := "AskedNames$Going", name := "worth", desc := "(ILjava/lang/String;I)I" } : Jvm.MethodName)) ∈ lw_tbl := lw_at lw_m6 108 rfl
theorem q1434 : (Jvm.Cond.instanceMethod ({ cls := "AskedNames$Going", name := "worth", desc := "(ILjava/lang/String;I)I" } : Jvm.MethodName)) ∈ lw_all := lw_g (lw_at lw_m6 109 rfl) rfl
theorem q1435 : (Jvm.Cond.code ({ cls := "AskedNames$Going", name := "worth", desc := "(ILjava/lang/String;I)I" } : Jvm.MethodName) prog_9_method_14_code (8 : Nat) (Option.some Jvm.ClassFile.FieldType.int)) ∈ lw_all := lw_g (lw_at lw_m6 110 rfl) rfl
theorem q1436 : (Jvm.Cond.constant "AskedNames$Going" (234 : Nat) (268435456 : Int32)) ∈ lw_all := lw_g (lw_at lw_m6 111 rfl) rfl
theorem q1437 : (Jvm.Cond.methodLink "AskedNames$Going" (235 : Nat) ({ cls := "java/lang/Math", name := "min", desc := "(II)I" } : Jvm.MethodName)) ∈ lw_all := lw_g (lw_at lw_m6 112 rfl) rfl
theorem q1438 : (Jvm.Cond.methodLink "AskedNames$Going" (249 : Nat) ({ cls := "java/util/Arrays", name := "copyOf", desc := "([II)[I" } : Jvm.MethodName)) ∈ lw_all := lw_g (lw_at lw_m6 113 rfl) rfl
theorem q1566 : (Jvm.Cond.instanceMethod ({ cls := "AskedNames$Going", name := "asks", desc := "(IILjava/lang/String;II)V" } : Jvm.MethodName)) ∈ lw_all := lw_g (lw_at lw_m7 1 rfl) rfl
theorem q1567 : (Jvm.Cond.selects "AskedNames$Going" ({ cls := "AskedNames$Going", name := "asks", desc := "(IILjava/lang/String;II)V" } : Jvm.MethodName) ({ cls := "AskedNames$Going", name := "asks", desc := "(IILjava/lang/String;II)V" } : Jvm.MethodName)) ∈ lw_all := lw_g (lw_at lw_m7 2 rfl) rfl
theorem q1568 : (Jvm.Cond.codeWith ({ cls := "AskedNames$Going", name := "asks", desc := "(IILjava/lang/String;II)V" } : Jvm.MethodName) prog_9_method_11_code (7 : Nat) (Option.none : Option Jvm.ClassFile.FieldType) [((0 : Nat), (11 : Nat), (14 : Nat), (137 : Nat)), ((0 : Nat), (11 : Nat), (14 : Nat), (139 : Nat))]) ∈ lw_all := lw_g (lw_at lw_m7 3 rfl) rfl
theorem q1569 : (Jvm.Cond.classLink "AskedNames$Going" (137 : Nat) "AskedNames$NoWay") ∈ lw_all := lw_g (lw_at lw_m7 4 rfl) rfl
theorem q1570 : (Jvm.Cond.classLink "AskedNames$Going" (139 : Nat) "AskedNames$Loop") ∈ lw_all := lw_g (lw_at lw_m7 5 rfl) rfl
theorem q1571 : (Jvm.Cond.methodLink "AskedNames$Going" (133 : Nat) ({ cls := "AskedNames$Going", name := "takes", desc := "(IILjava/lang/String;II)V" } : Jvm.MethodName)) ∈ lw_all := lw_g (lw_at lw_m7 6 rfl) rfl
theorem q1572 : (Jvm.Cond.privateMethod ({ cls := "AskedNames$Going", name := "takes", desc := "(IILjava/lang/String;II)V" } : Jvm.MethodName)) ∈ lw_tbl := lw_at lw_m7 7 rfl
theorem q1573 : (Jvm.Cond.instanceMethod ({ cls := "AskedNames$Going", name := "takes", desc := "(IILjava/lang/String;II)V" } : Jvm.MethodName)) ∈ lw_all := lw_g (lw_at lw_m7 8 rfl) rfl
theorem q1574 : (Jvm.Cond.code ({ cls := "AskedNames$Going", name := "takes", desc := "(IILjava/lang/String;II)V" } : Jvm.MethodName) prog_9_method_12_code (11 : Nat) (Option.none : Option Jvm.ClassFile.FieldType)) ∈ lw_all := lw_g (lw_at lw_m7 9 rfl) rfl
theorem q1575 : (Jvm.Cond.methodLink "AskedNames$Going" (152 : Nat) ({ cls := "AskedNames$Node", name := "entry", desc := "(Ljava/lang/String;I)LAskedNames$Entry;" } : Jvm.MethodName)) ∈ lw_all := lw_g (lw_at lw_m7 10 rfl) rfl
theorem q1595 : (Jvm.Cond.methodLink "AskedNames$Going" (168 : Nat) ({ cls := "AskedNames$Loop", name := "<init>", desc := "(I)V" } : Jvm.MethodName)) ∈ lw_all := lw_g (lw_at lw_m7 30 rfl) rfl
theorem q1610 : (Jvm.Cond.methodLink "AskedNames$Going" (169 : Nat) ({ cls := "AskedNames$Node", name := "uses", desc := "(Ljava/lang/String;II)LAskedNames$Data;" } : Jvm.MethodName)) ∈ lw_all := lw_g (lw_at lw_m7 45 rfl) rfl
theorem q1626 : (Jvm.Cond.methodLink "AskedNames$Going" (180 : Nat) ({ cls := "AskedNames$Going", name := "gives", desc := "(IIILAskedNames$Data;I)V" } : Jvm.MethodName)) ∈ lw_all := lw_g (lw_at lw_m7 61 rfl) rfl
theorem q1627 : (Jvm.Cond.privateMethod ({ cls := "AskedNames$Going", name := "gives", desc := "(IIILAskedNames$Data;I)V" } : Jvm.MethodName)) ∈ lw_tbl := lw_at lw_m7 62 rfl
theorem q1628 : (Jvm.Cond.instanceMethod ({ cls := "AskedNames$Going", name := "gives", desc := "(IIILAskedNames$Data;I)V" } : Jvm.MethodName)) ∈ lw_all := lw_g (lw_at lw_m7 63 rfl) rfl
theorem q1629 : (Jvm.Cond.code ({ cls := "AskedNames$Going", name := "gives", desc := "(IIILAskedNames$Data;I)V" } : Jvm.MethodName) prog_9_method_9_code (6 : Nat) (Option.none : Option Jvm.ClassFile.FieldType)) ∈ lw_all := lw_g (lw_at lw_m7 64 rfl) rfl
theorem q1630 : (Jvm.Cond.methodLink "AskedNames$Going" (102 : Nat) ({ cls := "AskedNames$Going", name := "end", desc := "(I[I)V" } : Jvm.MethodName)) ∈ lw_all := lw_g (lw_at lw_m7 65 rfl) rfl
theorem q1631 : (Jvm.Cond.privateMethod ({ cls := "AskedNames$Going", name := "end", desc := "(I[I)V" } : Jvm.MethodName)) ∈ lw_tbl := lw_at lw_m7 66 rfl
theorem q1632 : (Jvm.Cond.instanceMethod ({ cls := "AskedNames$Going", name := "end", desc := "(I[I)V" } : Jvm.MethodName)) ∈ lw_all := lw_g (lw_at lw_m7 67 rfl) rfl
theorem q1633 : (Jvm.Cond.code ({ cls := "AskedNames$Going", name := "end", desc := "(I[I)V" } : Jvm.MethodName) prog_9_method_6_code (5 : Nat) (Option.none : Option Jvm.ClassFile.FieldType)) ∈ lw_all := lw_g (lw_at lw_m7 68 rfl) rfl
theorem q1634 : (Jvm.Cond.classLink "AskedNames$Going" (82 : Nat) "AskedNames$Message") ∈ lw_all := lw_g (lw_at lw_m7 69 rfl) rfl
theorem q1636 : (Jvm.Cond.methodLink "AskedNames$Going" (106 : Nat) ({ cls := "AskedNames$Going", name := "at", desc := "(II)I" } : Jvm.MethodName)) ∈ lw_all := lw_g (lw_at lw_m7 71 rfl) rfl
theorem q1637 : (Jvm.Cond.privateMethod ({ cls := "AskedNames$Going", name := "at", desc := "(II)I" } : Jvm.MethodName)) ∈ lw_tbl := lw_at lw_m7 72 rfl
theorem q1638 : (Jvm.Cond.instanceMethod ({ cls := "AskedNames$Going", name := "at", desc := "(II)I" } : Jvm.MethodName)) ∈ lw_all := lw_g (lw_at lw_m7 73 rfl) rfl
theorem q1639 : (Jvm.Cond.code ({ cls := "AskedNames$Going", name := "at", desc := "(II)I" } : Jvm.MethodName) prog_9_method_8_code (3 : Nat) (Option.some Jvm.ClassFile.FieldType.int)) ∈ lw_all := lw_g (lw_at lw_m7 74 rfl) rfl
theorem q1640 : (Jvm.Cond.methodLink "AskedNames$Going" (98 : Nat) ({ cls := "AskedNames$Net", name := "delay", desc := "(II)I" } : Jvm.MethodName)) ∈ lw_all := lw_g (lw_at lw_m7 75 rfl) rfl
theorem q1641 : (Jvm.Cond.methodLink "AskedNames$Going" (115 : Nat) ({ cls := "AskedNames$Message", name := "<init>", desc := "(IIILjava/lang/String;IILAskedNames$Data;ILAskedNames$Refused;)V" } : Jvm.MethodName)) ∈ lw_all := lw_g (lw_at lw_m7 76 rfl) rfl
theorem q1646 : (Jvm.Cond.fieldLinkNest "AskedNames$Going" (81 : Nat) "AskedNames$Message" "from" "I" "AskedNames") ∈ lw_tbl := lw_at lw_m7 81 rfl
theorem q1648 : (Jvm.Cond.fieldLinkNest "AskedNames$Going" (86 : Nat) "AskedNames$Message" "to" "I" "AskedNames") ∈ lw_tbl := lw_at lw_m7 83 rfl
theorem q1650 : (Jvm.Cond.fieldLinkNest "AskedNames$Going" (341 : Nat) "AskedNames$Message" "at" "I" "AskedNames") ∈ lw_tbl := lw_at lw_m7 85 rfl
theorem q1652 : (Jvm.Cond.fieldLinkNest "AskedNames$Going" (312 : Nat) "AskedNames$Message" "wish" "I" "AskedNames") ∈ lw_tbl := lw_at lw_m7 87 rfl
theorem q1654 : (Jvm.Cond.fieldLinkNest "AskedNames$Going" (324 : Nat) "AskedNames$Message" "nonce" "I" "AskedNames") ∈ lw_tbl := lw_at lw_m7 89 rfl
theorem q1656 : (Jvm.Cond.fieldLinkNest "AskedNames$Going" (300 : Nat) "AskedNames$Message" "source" "I" "AskedNames") ∈ lw_tbl := lw_at lw_m7 91 rfl
theorem q1658 : (Jvm.Cond.fieldLinkNest "AskedNames$Going" (311 : Nat) "AskedNames$Message" "name" "Ljava/lang/String;" "AskedNames") ∈ lw_tbl := lw_at lw_m7 93 rfl
theorem q1660 : (Jvm.Cond.fieldLinkNest "AskedNames$Going" (277 : Nat) "AskedNames$Message" "data" "LAskedNames$Data;" "AskedNames") ∈ lw_tbl := lw_at lw_m7 95 rfl
theorem q1662 : (Jvm.Cond.fieldLinkNest "AskedNames$Going" (313 : Nat) "AskedNames$Message" "why" "LAskedNames$Refused;" "AskedNames") ∈ lw_tbl := lw_at lw_m7 97 rfl
theorem q1682 : (Jvm.Cond.methodLink "AskedNames$Going" (118 : Nat) ({ cls := "AskedNames$Going", name := "sends", desc := "(LAskedNames$Message;)V" } : Jvm.MethodName)) ∈ lw_all := lw_g (lw_at lw_m7 117 rfl) rfl
theorem q1683 : (Jvm.Cond.privateMethod ({ cls := "AskedNames$Going", name := "sends", desc := "(LAskedNames$Message;)V" } : Jvm.MethodName)) ∈ lw_tbl := lw_at lw_m7 118 rfl
theorem q1684 : (Jvm.Cond.instanceMethod ({ cls := "AskedNames$Going", name := "sends", desc := "(LAskedNames$Message;)V" } : Jvm.MethodName)) ∈ lw_all := lw_g (lw_at lw_m7 119 rfl) rfl
theorem q1685 : (Jvm.Cond.code ({ cls := "AskedNames$Going", name := "sends", desc := "(LAskedNames$Message;)V" } : Jvm.MethodName) prog_9_method_7_code (2 : Nat) (Option.none : Option Jvm.ClassFile.FieldType)) ∈ lw_all := lw_g (lw_at lw_m7 120 rfl) rfl
theorem q1686 : (Jvm.Cond.classLink "AskedNames$Going" (110 : Nat) "AskedNames$Data") ∈ lw_all := lw_g (lw_at lw_m7 121 rfl) rfl
theorem q1688 : (Jvm.Cond.methodLink "AskedNames$Going" (189 : Nat) ({ cls := "AskedNames$Data", name := "<init>", desc := "(Ljava/lang/String;II)V" } : Jvm.MethodName)) ∈ lw_all := lw_g (lw_at lw_m7 123 rfl) rfl
theorem q1694 : (Jvm.Cond.fieldLinkNest "AskedNames$Going" (109 : Nat) "AskedNames$Data" "name" "Ljava/lang/String;" "AskedNames") ∈ lw_tbl := lw_at lw_m7 129 rfl
theorem q1698 : (Jvm.Cond.fieldLinkNest "AskedNames$Going" (284 : Nat) "AskedNames$Data" "until" "I" "AskedNames") ∈ lw_tbl := lw_at lw_m7 133 rfl
theorem q1709 : (Jvm.Cond.methodLink "AskedNames$Going" (195 : Nat) ({ cls := "AskedNames$Entry", name := "takes", desc := "(II)V" } : Jvm.MethodName)) ∈ lw_all := lw_g (lw_at lw_m7 144 rfl) rfl
theorem q1734 : (Jvm.Cond.classLink "AskedNames$Going" (161 : Nat) "AskedNames$Entry") ∈ lw_all := lw_g (lw_at lw_m7 169 rfl) rfl
theorem q1736 : (Jvm.Cond.methodLink "AskedNames$Going" (201 : Nat) ({ cls := "AskedNames$Entry", name := "<init>", desc := "(Ljava/lang/String;III)V" } : Jvm.MethodName)) ∈ lw_all := lw_g (lw_at lw_m7 171 rfl) rfl
theorem q1743 : (Jvm.Cond.fieldLinkNest "AskedNames$Going" (255 : Nat) "AskedNames$Entry" "name" "Ljava/lang/String;" "AskedNames") ∈ lw_tbl := lw_at lw_m7 178 rfl
theorem q1746 : (Jvm.Cond.fieldLinkNest "AskedNames$Going" (271 : Nat) "AskedNames$Entry" "wish" "I" "AskedNames") ∈ lw_tbl := lw_at lw_m7 181 rfl
theorem q1749 : (Jvm.Cond.fieldLinkNest "AskedNames$Going" (329 : Nat) "AskedNames$Entry" "ends" "I" "AskedNames") ∈ lw_tbl := lw_at lw_m7 184 rfl
theorem q1752 : (Jvm.Cond.fieldLinkNest "AskedNames$Going" (274 : Nat) "AskedNames$Entry" "first" "I" "AskedNames") ∈ lw_tbl := lw_at lw_m7 187 rfl
theorem q1754 : (Jvm.Cond.fieldLinkNest "AskedNames$Going" (303 : Nat) "AskedNames$Entry" "asks" "Ljava/util/ArrayList;" "AskedNames") ∈ lw_tbl := lw_at lw_m7 189 rfl
theorem q1757 : (Jvm.Cond.fieldLinkNest "AskedNames$Going" (160 : Nat) "AskedNames$Entry" "nonces" "J" "AskedNames") ∈ lw_tbl := lw_at lw_m7 192 rfl
theorem q1759 : (Jvm.Cond.fieldLinkNest "AskedNames$Going" (256 : Nat) "AskedNames$Entry" "in" "I" "AskedNames") ∈ lw_tbl := lw_at lw_m7 194 rfl
theorem q1762 : (Jvm.Cond.fieldLinkNest "AskedNames$Going" (267 : Nat) "AskedNames$Entry" "out" "I" "AskedNames") ∈ lw_tbl := lw_at lw_m7 197 rfl
theorem q1764 : (Jvm.Cond.fieldLinkNest "AskedNames$Going" (259 : Nat) "AskedNames$Entry" "tried" "I" "AskedNames") ∈ lw_tbl := lw_at lw_m7 199 rfl
theorem q1766 : (Jvm.Cond.fieldLinkNest "AskedNames$Going" (270 : Nat) "AskedNames$Entry" "sent" "I" "AskedNames") ∈ lw_tbl := lw_at lw_m7 201 rfl
theorem q1789 : (Jvm.Cond.methodLink "AskedNames$Going" (204 : Nat) ({ cls := "AskedNames$Going", name := "on", desc := "(ILAskedNames$Entry;)V" } : Jvm.MethodName)) ∈ lw_all := lw_g (lw_at lw_m7 224 rfl) rfl
theorem q1790 : (Jvm.Cond.privateMethod ({ cls := "AskedNames$Going", name := "on", desc := "(ILAskedNames$Entry;)V" } : Jvm.MethodName)) ∈ lw_tbl := lw_at lw_m7 225 rfl
theorem q1791 : (Jvm.Cond.instanceMethod ({ cls := "AskedNames$Going", name := "on", desc := "(ILAskedNames$Entry;)V" } : Jvm.MethodName)) ∈ lw_all := lw_g (lw_at lw_m7 226 rfl) rfl
theorem q1792 : (Jvm.Cond.code ({ cls := "AskedNames$Going", name := "on", desc := "(ILAskedNames$Entry;)V" } : Jvm.MethodName) prog_9_method_17_code (4 : Nat) (Option.none : Option Jvm.ClassFile.FieldType)) ∈ lw_all := lw_g (lw_at lw_m7 227 rfl) rfl
theorem q1793 : (Jvm.Cond.methodLink "AskedNames$Going" (262 : Nat) ({ cls := "AskedNames$Node", name := "loses", desc := "(LAskedNames$Entry;)V" } : Jvm.MethodName)) ∈ lw_all := lw_g (lw_at lw_m7 228 rfl) rfl
theorem q1805 : (Jvm.Cond.methodLink "AskedNames$Going" (266 : Nat) ({ cls := "AskedNames$NoWay", name := "<init>", desc := "(I)V" } : Jvm.MethodName)) ∈ lw_all := lw_g (lw_at lw_m8 0 rfl) rfl
theorem q1815 : (Jvm.Cond.classLink "AskedNames$Going" (123 : Nat) "AskedNames$Refused") ∈ lw_all := lw_g (lw_at lw_m8 10 rfl) rfl
theorem q1824 : (Jvm.Cond.methodLink "AskedNames$Going" (141 : Nat) ({ cls := "AskedNames$Refused", name := "<init>", desc := "(Ljava/lang/Exception;)V" } : Jvm.MethodName)) ∈ lw_all := lw_g (lw_at lw_m8 19 rfl) rfl
theorem q1830 : (Jvm.Cond.methodLink "AskedNames$Going" (144 : Nat) ({ cls := "AskedNames$Going", name := "refuses", desc := "(IIILjava/lang/String;ILAskedNames$Refused;)V" } : Jvm.MethodName)) ∈ lw_all := lw_g (lw_at lw_m8 25 rfl) rfl
theorem q1831 : (Jvm.Cond.privateMethod ({ cls := "AskedNames$Going", name := "refuses", desc := "(IIILjava/lang/String;ILAskedNames$Refused;)V" } : Jvm.MethodName)) ∈ lw_tbl := lw_at lw_m8 26 rfl
theorem q1832 : (Jvm.Cond.instanceMethod ({ cls := "AskedNames$Going", name := "refuses", desc := "(IIILjava/lang/String;ILAskedNames$Refused;)V" } : Jvm.MethodName)) ∈ lw_all := lw_g (lw_at lw_m8 27 rfl) rfl
theorem q1833 : (Jvm.Cond.code ({ cls := "AskedNames$Going", name := "refuses", desc := "(IIILjava/lang/String;ILAskedNames$Refused;)V" } : Jvm.MethodName) prog_9_method_10_code (7 : Nat) (Option.none : Option Jvm.ClassFile.FieldType)) ∈ lw_all := lw_g (lw_at lw_m8 28 rfl) rfl
theorem q1834 : (Jvm.Cond.methodLink "AskedNames$Going" (122 : Nat) ({ cls := "AskedNames$Refused", name := "depth", desc := "()I" } : Jvm.MethodName)) ∈ lw_all := lw_g (lw_at lw_m8 29 rfl) rfl
theorem q1847 : (Jvm.Cond.methodLink "AskedNames$Going" (127 : Nat) ({ cls := "AskedNames$Refused", name := "isLoop", desc := "()Z" } : Jvm.MethodName)) ∈ lw_all := lw_g (lw_at lw_m8 42 rfl) rfl
theorem q1856 : (Jvm.Cond.methodLink "AskedNames$Going" (130 : Nat) ({ cls := "AskedNames$Refused", name := "node", desc := "()I" } : Jvm.MethodName)) ∈ lw_all := lw_g (lw_at lw_m8 51 rfl) rfl
theorem q1862 : (Jvm.Cond.instanceMethod ({ cls := "AskedNames$Going", name := "minute", desc := "()V" } : Jvm.MethodName)) ∈ lw_all := lw_g (lw_at lw_m8 57 rfl) rfl
theorem q1863 : (Jvm.Cond.selects "AskedNames$Going" ({ cls := "AskedNames$Going", name := "minute", desc := "()V" } : Jvm.MethodName) ({ cls := "AskedNames$Going", name := "minute", desc := "()V" } : Jvm.MethodName)) ∈ lw_all := lw_g (lw_at lw_m8 58 rfl) rfl
theorem q1864 : (Jvm.Cond.code ({ cls := "AskedNames$Going", name := "minute", desc := "()V" } : Jvm.MethodName) prog_9_method_22_code (5 : Nat) (Option.none : Option Jvm.ClassFile.FieldType)) ∈ lw_all := lw_g (lw_at lw_m8 59 rfl) rfl
theorem q1865 : (Jvm.Cond.methodLink "AskedNames$Going" (334 : Nat) ({ cls := "AskedNames$Going", name := "runsOut", desc := "(LAskedNames$Node;)V" } : Jvm.MethodName)) ∈ lw_all := lw_g (lw_at lw_m8 60 rfl) rfl
theorem q1866 : (Jvm.Cond.privateMethod ({ cls := "AskedNames$Going", name := "runsOut", desc := "(LAskedNames$Node;)V" } : Jvm.MethodName)) ∈ lw_tbl := lw_at lw_m8 61 rfl
theorem q1867 : (Jvm.Cond.instanceMethod ({ cls := "AskedNames$Going", name := "runsOut", desc := "(LAskedNames$Node;)V" } : Jvm.MethodName)) ∈ lw_all := lw_g (lw_at lw_m8 62 rfl) rfl
theorem q1868 : (Jvm.Cond.code ({ cls := "AskedNames$Going", name := "runsOut", desc := "(LAskedNames$Node;)V" } : Jvm.MethodName) prog_9_method_21_code (6 : Nat) (Option.none : Option Jvm.ClassFile.FieldType)) ∈ lw_all := lw_g (lw_at lw_m8 63 rfl) rfl
theorem q1869 : (Jvm.Cond.methodLink "AskedNames$Going" (331 : Nat) ({ cls := "java/util/ArrayList", name := "remove", desc := "(I)Ljava/lang/Object;" } : Jvm.MethodName)) ∈ lw_all := lw_g (lw_at lw_m8 64 rfl) rfl
theorem q1870 : (Jvm.Cond.methodLink "AskedNames$Going" (57 : Nat) ({ cls := "java/util/ArrayList", name := "iterator", desc := "()Ljava/util/Iterator;" } : Jvm.MethodName)) ∈ lw_all := lw_g (lw_at lw_m8 65 rfl) rfl
theorem q1871 : (Jvm.Cond.interfaceEntry "AskedNames$Going" (61 : Nat)) ∈ lw_tbl := lw_at lw_m8 66 rfl
theorem q1872 : (Jvm.Cond.methodLink "AskedNames$Going" (61 : Nat) ({ cls := "java/util/Iterator", name := "hasNext", desc := "()Z" } : Jvm.MethodName)) ∈ lw_all := lw_g (lw_at lw_m8 67 rfl) rfl
theorem q1873 : (Jvm.Cond.interfaceEntry "AskedNames$Going" (67 : Nat)) ∈ lw_tbl := lw_at lw_m8 68 rfl
theorem q1874 : (Jvm.Cond.methodLink "AskedNames$Going" (67 : Nat) ({ cls := "java/util/Iterator", name := "next", desc := "()Ljava/lang/Object;" } : Jvm.MethodName)) ∈ lw_all := lw_g (lw_at lw_m8 69 rfl) rfl
theorem q1875 : (Jvm.Cond.classLink "AskedNames$Going" (306 : Nat) "java/lang/Integer") ∈ lw_all := lw_g (lw_at lw_m8 70 rfl) rfl
theorem q1876 : (Jvm.Cond.methodLink "AskedNames$Going" (308 : Nat) ({ cls := "java/lang/Integer", name := "intValue", desc := "()I" } : Jvm.MethodName)) ∈ lw_all := lw_g (lw_at lw_m8 71 rfl) rfl
theorem q1880 : (Jvm.Cond.methodLink "AskedNames$Going" (338 : Nat) ({ cls := "AskedNames$Going", name := "doesComeNow", desc := "()Z" } : Jvm.MethodName)) ∈ lw_all := lw_g (lw_at lw_m8 75 rfl) rfl
theorem q1881 : (Jvm.Cond.privateMethod ({ cls := "AskedNames$Going", name := "doesComeNow", desc := "()Z" } : Jvm.MethodName)) ∈ lw_tbl := lw_at lw_m8 76 rfl
theorem q1882 : (Jvm.Cond.instanceMethod ({ cls := "AskedNames$Going", name := "doesComeNow", desc := "()Z" } : Jvm.MethodName)) ∈ lw_all := lw_g (lw_at lw_m8 77 rfl) rfl
theorem q1883 : (Jvm.Cond.code ({ cls := "AskedNames$Going", name := "doesComeNow", desc := "()Z" } : Jvm.MethodName) prog_9_method_23_code (2 : Nat) (Option.some Jvm.ClassFile.FieldType.boolean)) ∈ lw_all := lw_g (lw_at lw_m8 78 rfl) rfl
theorem q1884 : (Jvm.Cond.methodLink "AskedNames$Going" (343 : Nat) ({ cls := "java/util/ArrayList", name := "set", desc := "(ILjava/lang/Object;)Ljava/lang/Object;" } : Jvm.MethodName)) ∈ lw_all := lw_g (lw_at lw_m8 79 rfl) rfl
theorem q1885 : (Jvm.Cond.methodLink "AskedNames$Going" (347 : Nat) ({ cls := "AskedNames$Going", name := "comes", desc := "(LAskedNames$Message;)V" } : Jvm.MethodName)) ∈ lw_all := lw_g (lw_at lw_m8 80 rfl) rfl
theorem q1886 : (Jvm.Cond.privateMethod ({ cls := "AskedNames$Going", name := "comes", desc := "(LAskedNames$Message;)V" } : Jvm.MethodName)) ∈ lw_tbl := lw_at lw_m8 81 rfl
theorem q1887 : (Jvm.Cond.instanceMethod ({ cls := "AskedNames$Going", name := "comes", desc := "(LAskedNames$Message;)V" } : Jvm.MethodName)) ∈ lw_all := lw_g (lw_at lw_m8 82 rfl) rfl
theorem q1888 : (Jvm.Cond.code ({ cls := "AskedNames$Going", name := "comes", desc := "(LAskedNames$Message;)V" } : Jvm.MethodName) prog_9_method_20_code (2 : Nat) (Option.none : Option Jvm.ClassFile.FieldType)) ∈ lw_all := lw_g (lw_at lw_m8 83 rfl) rfl
theorem q1889 : (Jvm.Cond.methodLink "AskedNames$Going" (317 : Nat) ({ cls := "AskedNames$Going", name := "gets", desc := "(ILAskedNames$Message;)V" } : Jvm.MethodName)) ∈ lw_all := lw_g (lw_at lw_m8 84 rfl) rfl
theorem q1890 : (Jvm.Cond.privateMethod ({ cls := "AskedNames$Going", name := "gets", desc := "(ILAskedNames$Message;)V" } : Jvm.MethodName)) ∈ lw_tbl := lw_at lw_m8 85 rfl
theorem q1891 : (Jvm.Cond.instanceMethod ({ cls := "AskedNames$Going", name := "gets", desc := "(ILAskedNames$Message;)V" } : Jvm.MethodName)) ∈ lw_all := lw_g (lw_at lw_m8 86 rfl) rfl
theorem q1892 : (Jvm.Cond.code ({ cls := "AskedNames$Going", name := "gets", desc := "(ILAskedNames$Message;)V" } : Jvm.MethodName) prog_9_method_18_code (9 : Nat) (Option.none : Option Jvm.ClassFile.FieldType)) ∈ lw_all := lw_g (lw_at lw_m8 87 rfl) rfl
theorem q1893 : (Jvm.Cond.methodLink "AskedNames$Going" (281 : Nat) ({ cls := "java/lang/String", name := "equals", desc := "(Ljava/lang/Object;)Z" } : Jvm.MethodName)) ∈ lw_all := lw_g (lw_at lw_m8 88 rfl) rfl
theorem q1894 : (Jvm.Cond.methodLink "AskedNames$Going" (287 : Nat) ({ cls := "java/util/ArrayList", name := "isEmpty", desc := "()Z" } : Jvm.MethodName)) ∈ lw_all := lw_g (lw_at lw_m8 89 rfl) rfl
theorem q1898 : (Jvm.Cond.methodLink "AskedNames$Going" (296 : Nat) ({ cls := "AskedNames$Node", name := "keeps", desc := "(LAskedNames$Data;I)V" } : Jvm.MethodName)) ∈ lw_all := lw_g (lw_at lw_m8 93 rfl) rfl
theorem q1902 : (Jvm.Cond.methodLink "AskedNames$Going" (321 : Nat) ({ cls := "AskedNames$Going", name := "hears", desc := "(ILAskedNames$Message;)V" } : Jvm.MethodName)) ∈ lw_all := lw_g (lw_at lw_m8 97 rfl) rfl
theorem q1903 : (Jvm.Cond.privateMethod ({ cls := "AskedNames$Going", name := "hears", desc := "(ILAskedNames$Message;)V" } : Jvm.MethodName)) ∈ lw_tbl := lw_at lw_m8 98 rfl
theorem q1904 : (Jvm.Cond.instanceMethod ({ cls := "AskedNames$Going", name := "hears", desc := "(ILAskedNames$Message;)V" } : Jvm.MethodName)) ∈ lw_all := lw_g (lw_at lw_m8 99 rfl) rfl
theorem q1905 : (Jvm.Cond.codeWith ({ cls := "AskedNames$Going", name := "hears", desc := "(ILAskedNames$Message;)V" } : Jvm.MethodName) prog_9_method_19_code (9 : Nat) (Option.none : Option Jvm.ClassFile.FieldType) [((44 : Nat), (51 : Nat), (54 : Nat), (137 : Nat))]) ∈ lw_all := lw_g (lw_at lw_m8 100 rfl) rfl
theorem q1906 : (Jvm.Cond.methodLink "AskedNames$Going" (327 : Nat) ({ cls := "AskedNames$Going", name := "asks", desc := "(IILjava/lang/String;II)V" } : Jvm.MethodName)) ∈ lw_all := lw_g (lw_at lw_m8 101 rfl) rfl
theorem q1908 : (Jvm.Cond.instanceMethod ({ cls := "AskedNames$Going", name := "turns", desc := "(II)V" } : Jvm.MethodName)) ∈ lw_all := lw_g (lw_at lw_m8 103 rfl) rfl
theorem q1909 : (Jvm.Cond.selects "AskedNames$Going" ({ cls := "AskedNames$Going", name := "turns", desc := "(II)V" } : Jvm.MethodName) ({ cls := "AskedNames$Going", name := "turns", desc := "(II)V" } : Jvm.MethodName)) ∈ lw_all := lw_g (lw_at lw_m8 104 rfl) rfl
theorem q1910 : (Jvm.Cond.code ({ cls := "AskedNames$Going", name := "turns", desc := "(II)V" } : Jvm.MethodName) prog_9_method_3_code (3 : Nat) (Option.none : Option Jvm.ClassFile.FieldType)) ∈ lw_all := lw_g (lw_at lw_m8 105 rfl) rfl
theorem q1912 : (Jvm.Cond.instanceMethod ({ cls := "AskedNames$Going", name := "entries", desc := "()I" } : Jvm.MethodName)) ∈ lw_all := lw_g (lw_at lw_m8 107 rfl) rfl
theorem q1913 : (Jvm.Cond.selects "AskedNames$Going" ({ cls := "AskedNames$Going", name := "entries", desc := "()I" } : Jvm.MethodName) ({ cls := "AskedNames$Going", name := "entries", desc := "()I" } : Jvm.MethodName)) ∈ lw_all := lw_g (lw_at lw_m8 108 rfl) rfl
theorem q1914 : (Jvm.Cond.code ({ cls := "AskedNames$Going", name := "entries", desc := "()I" } : Jvm.MethodName) prog_9_method_5_code (4 : Nat) (Option.some Jvm.ClassFile.FieldType.int)) ∈ lw_all := lw_g (lw_at lw_m8 109 rfl) rfl
theorem q1925 : (Jvm.Cond.instanceMethod ({ cls := "AskedNames$Going", name := "told", desc := "(I)I" } : Jvm.MethodName)) ∈ lw_all := lw_g (lw_at lw_m8 120 rfl) rfl
theorem q1926 : (Jvm.Cond.selects "AskedNames$Going" ({ cls := "AskedNames$Going", name := "told", desc := "(I)I" } : Jvm.MethodName) ({ cls := "AskedNames$Going", name := "told", desc := "(I)I" } : Jvm.MethodName)) ∈ lw_all := lw_g (lw_at lw_m8 121 rfl) rfl
theorem q1927 : (Jvm.Cond.code ({ cls := "AskedNames$Going", name := "told", desc := "(I)I" } : Jvm.MethodName) prog_9_method_24_code (5 : Nat) (Option.some Jvm.ClassFile.FieldType.int)) ∈ lw_all := lw_g (lw_at lw_m8 122 rfl) rfl
theorem q1928 : (Jvm.Cond.methodLink "AskedNames$Going" (350 : Nat) ({ cls := "AskedNames$Going", name := "entries", desc := "()I" } : Jvm.MethodName)) ∈ lw_all := lw_g (lw_at lw_m8 123 rfl) rfl
theorem q1929 : (Jvm.Cond.methodLink "AskedNames$Going" (352 : Nat) ({ cls := "AskedNames$Going", name := "cut", desc := "()I" } : Jvm.MethodName)) ∈ lw_all := lw_g (lw_at lw_m8 124 rfl) rfl
theorem q1930 : (Jvm.Cond.instanceMethod ({ cls := "AskedNames$Going", name := "cut", desc := "()I" } : Jvm.MethodName)) ∈ lw_all := lw_g (lw_at lw_m8 125 rfl) rfl
theorem q1931 : (Jvm.Cond.selects "AskedNames$Going" ({ cls := "AskedNames$Going", name := "cut", desc := "()I" } : Jvm.MethodName) ({ cls := "AskedNames$Going", name := "cut", desc := "()I" } : Jvm.MethodName)) ∈ lw_all := lw_g (lw_at lw_m8 126 rfl) rfl
theorem q1932 : (Jvm.Cond.code ({ cls := "AskedNames$Going", name := "cut", desc := "()I" } : Jvm.MethodName) prog_9_method_4_code (4 : Nat) (Option.some Jvm.ClassFile.FieldType.int)) ∈ lw_all := lw_g (lw_at lw_m8 127 rfl) rfl
theorem q1933 : (Jvm.Cond.methodLinkNest "AskedNames$Going" (355 : Nat) ({ cls := "AskedNames", name := "isIn", desc := "(III)Z" } : Jvm.MethodName) "AskedNames") ∈ lw_tbl := lw_at lw_m8 128 rfl
theorem q1934 : (Jvm.Cond.methodLink "AskedNames$Going" (359 : Nat) ({ cls := "AskedNames$Net", name := "isNode", desc := "(I)Z" } : Jvm.MethodName)) ∈ lw_all := lw_g (lw_at lw_m8 129 rfl) rfl
theorem q1935 : (Jvm.Cond.methodLink "AskedNames$Going" (366 : Nat) ({ cls := "java/lang/Long", name := "bitCount", desc := "(J)I" } : Jvm.MethodName)) ∈ lw_all := lw_g (lw_at lw_m8 130 rfl) rfl
theorem q2988 : (Jvm.Cond.castable "AskedNames$Going" "java/lang/Object") ∈ lw_tbl := lw_at lw_m12 223 rfl
theorem in_X12 : ∀ w ∈ wsX120, w ∈ lw_all := lw_in wsX120 [1372, 1374, 1376, 1378, 1380, 1382, 1384, 1386, 1388, 1390, 1392, 1394] (by decide +kernel) (by decide +kernel)
