/-! AskedNamesModel -/
set_option maxRecDepth 100000
def RX2 : String := "AskedNamesModel"
def TX2 : u_T := fun k => match k with
  | 0 => ("AskedNamesModel", "code", "I", false)
  | 1 => ("AskedNamesModel", "tape", "[B", true)
  | 2 => ("AskedNamesModel", "size", "[I", true)
  | 3 => ("AskedNamesModel", "fault", "[I", true)
  | 4 => ("AskedNamesModel", "faultPlace", "[I", true)
  | 5 => ("AskedNamesModel", "many", "[I", true)
  | 6 => ("AskedNamesModel", "nets", "[I", true)
  | 7 => ("AskedNamesModel", "runs", "[I", true)
  | 8 => ("AskedNamesModel", "logs", "[I", true)
  | 9 => ("AskedNamesModel", "reached", "I", false)
  | 10 => ("AskedNamesModel", "length", "I", false)
  | 11 => ("AskedNamesModel", "begins", "I", false)
  | 12 => ("AskedNamesModel", "sort", "I", false)
  | 13 => ("AskedNamesModel", "value", "I", false)
  | 14 => ("AskedNamesModel", "word", "J", false)
  | 15 => ("AskedNamesModel", "wrongAt", "I", false)
  | 16 => ("AskedNamesModel", "laterFault", "I", false)
  | 17 => ("AskedNamesModel", "laterPlace", "I", false)
  | 18 => ("AskedNamesModel", "told", "[I", true)
  | 19 => ("AskedNamesModel", "read", "[I", true)
  | 20 => ("AskedNamesModel", "farNode", "I", false)
  | 21 => ("AskedNamesModel", "good", "Z", false)
  | 22 => ("AskedNamesModel", "net", "I", false)
  | 23 => ("AskedNamesModel", "nodes", "I", false)
  | 24 => ("AskedNamesModel", "life", "I", false)
  | 25 => ("AskedNamesModel", "linkOf", "[I", true)
  | 26 => ("AskedNamesModel", "down", "I", false)
  | 27 => ("AskedNamesModel", "minute", "I", false)
  | 28 => ("AskedNamesModel", "dead", "[J", true)
  | 29 => ("AskedNamesModel", "measured", "[I", true)
  | 30 => ("AskedNamesModel", "storeMany", "[I", true)
  | 31 => ("AskedNamesModel", "storeName", "[I", true)
  | 32 => ("AskedNamesModel", "storeUntil", "[I", true)
  | 33 => ("AskedNamesModel", "storeBy", "[I", true)
  | 34 => ("AskedNamesModel", "entryMany", "[I", true)
  | 35 => ("AskedNamesModel", "entryName", "[I", true)
  | 36 => ("AskedNamesModel", "entryWish", "[I", true)
  | 37 => ("AskedNamesModel", "entryIn", "[I", true)
  | 38 => ("AskedNamesModel", "entryAsks", "[J", true)
  | 39 => ("AskedNamesModel", "entryNonces", "[J", true)
  | 40 => ("AskedNamesModel", "entryFirst", "[I", true)
  | 41 => ("AskedNamesModel", "entryOut", "[I", true)
  | 42 => ("AskedNamesModel", "entryTried", "[I", true)
  | 43 => ("AskedNamesModel", "entrySent", "[I", true)
  | 44 => ("AskedNamesModel", "entryEnds", "[I", true)
  | 45 => ("AskedNamesModel", "ways", "I", false)
  | 46 => ("AskedNamesModel", "wayKind", "[I", true)
  | 47 => ("AskedNamesModel", "wayFrom", "[I", true)
  | 48 => ("AskedNamesModel", "wayTo", "[I", true)
  | 49 => ("AskedNamesModel", "wayName", "[I", true)
  | 50 => ("AskedNamesModel", "wayWish", "[I", true)
  | 51 => ("AskedNamesModel", "wayNonce", "[I", true)
  | 52 => ("AskedNamesModel", "wayDue", "[I", true)
  | 53 => ("AskedNamesModel", "wayA", "[I", true)
  | 54 => ("AskedNamesModel", "wayB", "[I", true)
  | 55 => ("AskedNamesModel", "wayC", "[I", true)
  | 56 => ("AskedNamesModel", "wayD", "[I", true)
  | 57 => ("AskedNamesModel", "cameOf", "[I", true)
  | 58 => ("AskedNamesModel", "cameAt", "[I", true)
  | 59 => ("AskedNamesModel", "askedAt", "[I", true)
  | 60 => ("AskedNamesModel", "cameFrom", "[I", true)
  | 61 => ("AskedNamesModel", "cameStore", "[I", true)
  | 62 => ("AskedNamesModel", "cameDepth", "[I", true)
  | 63 => ("AskedNamesModel", "cameRoot", "[I", true)
  | 64 => ("AskedNamesModel", "cameWhere", "[I", true)
  | 65 => ("AskedNamesModel", "sent", "I", false)
  | 66 => ("AskedNamesModel", "hits", "I", false)
  | 67 => ("AskedNamesModel", "joined", "I", false)
  | 68 => ("AskedNamesModel", "loops", "I", false)
  | 69 => ("AskedNamesModel", "dropped", "I", false)
  | 70 => ("AskedNamesModel", "missed", "I", false)
  | 71 => ("AskedNamesModel", "a", "I", false)
  | 72 => ("AskedNamesModel", "b", "I", false)
  | 73 => ("AskedNamesModel", "c", "I", false)
  | 74 => ("AskedNamesModel", "d", "I", false)
  | 75 => ("AskedNamesModel", "run", "I", false)
  | 76 => ("AskedNamesModel", "widest", "I", false)
  | 77 => ("AskedNamesModel", "parts", "[I", true)
  | 78 => ("AskedNamesModel", "walked", "[I", true)
  | 79 => ("AskedNamesModel", "walkedMany", "I", false)
  | 80 => ("AskedNamesModel", "least", "[I", true)
  | 81 => ("AskedNamesModel", "log", "I", false)
  | 82 => ("AskedNamesModel", "found", "I", false)
  | 83 => ("AskedNamesModel", "asked", "I", false)
  | 84 => ("AskedNamesModel", "seen", "[I", true)
  | 85 => ("AskedNamesModel", "seed", "I", false)
  | _ => ("AskedNamesModel", "saved", "[Z", true)
def tyX2 : Nat → FieldType := fun k => match k with
  | 0 => .int
  | 1 => .array .byte
  | 2 => .array .int
  | 3 => .array .int
  | 4 => .array .int
  | 5 => .array .int
  | 6 => .array .int
  | 7 => .array .int
  | 8 => .array .int
  | 9 => .int
  | 10 => .int
  | 11 => .int
  | 12 => .int
  | 13 => .int
  | 14 => .long
  | 15 => .int
  | 16 => .int
  | 17 => .int
  | 18 => .array .int
  | 19 => .array .int
  | 20 => .int
  | 21 => .boolean
  | 22 => .int
  | 23 => .int
  | 24 => .int
  | 25 => .array .int
  | 26 => .int
  | 27 => .int
  | 28 => .array .long
  | 29 => .array .int
  | 30 => .array .int
  | 31 => .array .int
  | 32 => .array .int
  | 33 => .array .int
  | 34 => .array .int
  | 35 => .array .int
  | 36 => .array .int
  | 37 => .array .int
  | 38 => .array .long
  | 39 => .array .long
  | 40 => .array .int
  | 41 => .array .int
  | 42 => .array .int
  | 43 => .array .int
  | 44 => .array .int
  | 45 => .int
  | 46 => .array .int
  | 47 => .array .int
  | 48 => .array .int
  | 49 => .array .int
  | 50 => .array .int
  | 51 => .array .int
  | 52 => .array .int
  | 53 => .array .int
  | 54 => .array .int
  | 55 => .array .int
  | 56 => .array .int
  | 57 => .array .int
  | 58 => .array .int
  | 59 => .array .int
  | 60 => .array .int
  | 61 => .array .int
  | 62 => .array .int
  | 63 => .array .int
  | 64 => .array .int
  | 65 => .int
  | 66 => .int
  | 67 => .int
  | 68 => .int
  | 69 => .int
  | 70 => .int
  | 71 => .int
  | 72 => .int
  | 73 => .int
  | 74 => .int
  | 75 => .int
  | 76 => .int
  | 77 => .array .int
  | 78 => .array .int
  | 79 => .int
  | 80 => .array .int
  | 81 => .int
  | 82 => .int
  | 83 => .int
  | 84 => .array .int
  | 85 => .int
  | _ => .array .boolean
abbrev wsX20 : List Cond := u_ws RX2 TX2 87
set_option maxRecDepth 100000 in
theorem nmX2 : ∀ a, a < 87 → ∀ b, b < 87 → a ≠ b → (TX2 a).2.1 ≠ (TX2 b).2.1 := by decide +kernel
set_option maxRecDepth 100000 in
theorem tyX2_ok : ∀ k, k < 87 → parseFieldDescriptor (TX2 k).2.2.1 = some (tyX2 k) := by decide +kernel
abbrev cX2_init : ByteArray := prog_25_method_1_code
def yX2_init : MethodName := ⟨RX2, "<init>", "()V"⟩
def dkwX2_init_19 : List UInt8 := [3, 2, 79, 177]
abbrev dktX2_init_19 : List UInt8 := dkwX2_init_19 ++ []
def dkwX2_init_18 : List UInt8 := [188, 10, 181, 0, 159, 42, 16, 40, 188, 10, 181, 0, 162, 42, 6, 188, 4, 181, 0, 165, 42, 180, 0, 20]
abbrev dktX2_init_18 : List UInt8 := dkwX2_init_18 ++ dktX2_init_19
def dkwX2_init_17 : List UInt8 := [188, 10, 181, 0, 150, 42, 16, 48, 188, 10, 181, 0, 153, 42, 16, 8, 188, 10, 181, 0, 156, 42, 16, 36]
abbrev dktX2_init_17 : List UInt8 := dkwX2_init_17 ++ dktX2_init_18
def dkwX2_init_16 : List UInt8 := [188, 10, 181, 0, 141, 42, 16, 64, 188, 10, 181, 0, 144, 42, 16, 64, 188, 10, 181, 0, 147, 42, 16, 64]
abbrev dktX2_init_16 : List UInt8 := dkwX2_init_16 ++ dktX2_init_17
def dkwX2_init_15 : List UInt8 := [188, 10, 181, 0, 132, 42, 16, 64, 188, 10, 181, 0, 135, 42, 16, 64, 188, 10, 181, 0, 138, 42, 16, 64]
abbrev dktX2_init_15 : List UInt8 := dkwX2_init_15 ++ dktX2_init_16
def dkwX2_init_14 : List UInt8 := [181, 0, 123, 42, 17, 16, 0, 188, 10, 181, 0, 126, 42, 16, 64, 188, 10, 181, 0, 129, 42, 16, 64]
abbrev dktX2_init_14 : List UInt8 := dkwX2_init_14 ++ dktX2_init_15
def dkwX2_init_13 : List UInt8 := [17, 16, 0, 188, 10, 181, 0, 117, 42, 17, 16, 0, 188, 10, 181, 0, 120, 42, 17, 16, 0, 188, 10]
abbrev dktX2_init_13 : List UInt8 := dkwX2_init_13 ++ dktX2_init_14
def dkwX2_init_12 : List UInt8 := [181, 0, 108, 42, 17, 16, 0, 188, 10, 181, 0, 111, 42, 17, 16, 0, 188, 10, 181, 0, 114, 42]
abbrev dktX2_init_12 : List UInt8 := dkwX2_init_12 ++ dktX2_init_13
def dkwX2_init_11 : List UInt8 := [17, 16, 0, 188, 10, 181, 0, 102, 42, 17, 16, 0, 188, 10, 181, 0, 105, 42, 17, 16, 0, 188, 10]
abbrev dktX2_init_11 : List UInt8 := dkwX2_init_11 ++ dktX2_init_12
def dkwX2_init_10 : List UInt8 := [181, 0, 93, 42, 17, 16, 0, 188, 10, 181, 0, 96, 42, 17, 16, 0, 188, 10, 181, 0, 99, 42]
abbrev dktX2_init_10 : List UInt8 := dkwX2_init_10 ++ dktX2_init_11
def dkwX2_init_9 : List UInt8 := [17, 1, 128, 188, 10, 181, 0, 87, 42, 17, 1, 128, 188, 10, 181, 0, 90, 42, 17, 1, 128, 188, 10]
abbrev dktX2_init_9 : List UInt8 := dkwX2_init_9 ++ dktX2_init_10
def dkwX2_init_8 : List UInt8 := [181, 0, 78, 42, 17, 1, 128, 188, 10, 181, 0, 81, 42, 17, 1, 128, 188, 10, 181, 0, 84, 42]
abbrev dktX2_init_8 : List UInt8 := dkwX2_init_8 ++ dktX2_init_9
def dkwX2_init_7 : List UInt8 := [17, 1, 128, 188, 10, 181, 0, 72, 42, 17, 1, 128, 188, 11, 181, 0, 75, 42, 17, 1, 128, 188, 11]
abbrev dktX2_init_7 : List UInt8 := dkwX2_init_7 ++ dktX2_init_8
def dkwX2_init_6 : List UInt8 := [188, 10, 181, 0, 63, 42, 17, 1, 128, 188, 10, 181, 0, 66, 42, 17, 1, 128, 188, 10, 181, 0, 69, 42]
abbrev dktX2_init_6 : List UInt8 := dkwX2_init_6 ++ dktX2_init_7
def dkwX2_init_5 : List UInt8 := [188, 10, 181, 0, 54, 42, 16, 36, 188, 10, 181, 0, 57, 42, 16, 36, 188, 10, 181, 0, 60, 42, 16, 6]
abbrev dktX2_init_5 : List UInt8 := dkwX2_init_5 ++ dktX2_init_6
def dkwX2_init_4 : List UInt8 := [188, 11, 181, 0, 44, 42, 16, 36, 188, 10, 181, 0, 48, 42, 16, 6, 188, 10, 181, 0, 51, 42, 16, 36]
abbrev dktX2_init_4 : List UInt8 := dkwX2_init_4 ++ dktX2_init_5
def dkwX2_init_3 : List UInt8 := [188, 10, 181, 0, 35, 42, 7, 188, 10, 181, 0, 38, 42, 16, 36, 188, 10, 181, 0, 41, 42, 16, 6]
abbrev dktX2_init_3 : List UInt8 := dkwX2_init_3 ++ dktX2_init_4
def dkwX2_init_2 : List UInt8 := [181, 0, 26, 42, 17, 3, 200, 188, 10, 181, 0, 29, 42, 17, 0, 136, 188, 10, 181, 0, 32, 42, 16, 122]
abbrev dktX2_init_2 : List UInt8 := dkwX2_init_2 ++ dktX2_init_3
def dkwX2_init_1 : List UInt8 := [181, 0, 17, 42, 7, 188, 10, 181, 0, 20, 42, 16, 12, 188, 10, 181, 0, 23, 42, 17, 3, 208, 188, 10]
abbrev dktX2_init_1 : List UInt8 := dkwX2_init_1 ++ dktX2_init_2
def dkwX2_init_0 : List UInt8 := [42, 183, 0, 1, 42, 17, 9, 96, 188, 8, 181, 0, 7, 42, 7, 188, 10, 181, 0, 13, 42, 7, 188, 10]
abbrev dktX2_init_0 : List UInt8 := dkwX2_init_0 ++ dktX2_init_1
theorem dksX2_init_0 : cX2_init.data.toList.drop 0 = dktX2_init_0 := by decide +kernel
theorem dksX2_init_1 : cX2_init.data.toList.drop 24 = dktX2_init_1 := dk_seg dksX2_init_0 24 rfl rfl
theorem dksX2_init_2 : cX2_init.data.toList.drop 48 = dktX2_init_2 := dk_seg dksX2_init_1 24 rfl rfl
theorem dksX2_init_3 : cX2_init.data.toList.drop 72 = dktX2_init_3 := dk_seg dksX2_init_2 24 rfl rfl
theorem dksX2_init_4 : cX2_init.data.toList.drop 95 = dktX2_init_4 := dk_seg dksX2_init_3 23 rfl rfl
theorem dksX2_init_5 : cX2_init.data.toList.drop 119 = dktX2_init_5 := dk_seg dksX2_init_4 24 rfl rfl
theorem dksX2_init_6 : cX2_init.data.toList.drop 143 = dktX2_init_6 := dk_seg dksX2_init_5 24 rfl rfl
theorem dksX2_init_7 : cX2_init.data.toList.drop 167 = dktX2_init_7 := dk_seg dksX2_init_6 24 rfl rfl
theorem dksX2_init_8 : cX2_init.data.toList.drop 190 = dktX2_init_8 := dk_seg dksX2_init_7 23 rfl rfl
theorem dksX2_init_9 : cX2_init.data.toList.drop 212 = dktX2_init_9 := dk_seg dksX2_init_8 22 rfl rfl
theorem dksX2_init_10 : cX2_init.data.toList.drop 235 = dktX2_init_10 := dk_seg dksX2_init_9 23 rfl rfl
theorem dksX2_init_11 : cX2_init.data.toList.drop 257 = dktX2_init_11 := dk_seg dksX2_init_10 22 rfl rfl
theorem dksX2_init_12 : cX2_init.data.toList.drop 280 = dktX2_init_12 := dk_seg dksX2_init_11 23 rfl rfl
theorem dksX2_init_13 : cX2_init.data.toList.drop 302 = dktX2_init_13 := dk_seg dksX2_init_12 22 rfl rfl
theorem dksX2_init_14 : cX2_init.data.toList.drop 325 = dktX2_init_14 := dk_seg dksX2_init_13 23 rfl rfl
theorem dksX2_init_15 : cX2_init.data.toList.drop 348 = dktX2_init_15 := dk_seg dksX2_init_14 23 rfl rfl
theorem dksX2_init_16 : cX2_init.data.toList.drop 372 = dktX2_init_16 := dk_seg dksX2_init_15 24 rfl rfl
theorem dksX2_init_17 : cX2_init.data.toList.drop 396 = dktX2_init_17 := dk_seg dksX2_init_16 24 rfl rfl
theorem dksX2_init_18 : cX2_init.data.toList.drop 420 = dktX2_init_18 := dk_seg dksX2_init_17 24 rfl rfl
theorem dksX2_init_19 : cX2_init.data.toList.drop 444 = dktX2_init_19 := dk_seg dksX2_init_18 24 rfl rfl
theorem dX2_init_0 : decode cX2_init 0 = .ok (.aload_n 0, 1) := dk_42 (dk_at dksX2_init_0 0 rfl rfl)
theorem dX2_init_1 : decode cX2_init 1 = .ok (.invokespecial 1, 3) := dk_183 0 1 (dk_at dksX2_init_0 1 rfl rfl)
theorem dX2_init_4 : decode cX2_init 4 = .ok (.aload_n 0, 1) := dk_42 (dk_at dksX2_init_0 4 rfl rfl)
theorem dX2_init_5 : decode cX2_init 5 = .ok (.sipush 2400, 3) := dk_17 9 96 (dk_at dksX2_init_0 5 rfl rfl)
theorem dX2_init_8 : decode cX2_init 8 = .ok (.newarray .byte, 2) := dk_188_8 (dk_at dksX2_init_0 8 rfl rfl)
theorem dX2_init_10 : decode cX2_init 10 = .ok (.putfield 7, 3) := dk_181 0 7 (dk_at dksX2_init_0 10 rfl rfl)
theorem dX2_init_13 : decode cX2_init 13 = .ok (.aload_n 0, 1) := dk_42 (dk_at dksX2_init_0 13 rfl rfl)
theorem dX2_init_14 : decode cX2_init 14 = .ok (.iconst 4, 1) := dk_7 (dk_at dksX2_init_0 14 rfl rfl)
theorem dX2_init_15 : decode cX2_init 15 = .ok (.newarray .int, 2) := dk_188_10 (dk_at dksX2_init_0 15 rfl rfl)
theorem dX2_init_17 : decode cX2_init 17 = .ok (.putfield 13, 3) := dk_181 0 13 (dk_at dksX2_init_0 17 rfl rfl)
theorem dX2_init_20 : decode cX2_init 20 = .ok (.aload_n 0, 1) := dk_42 (dk_at dksX2_init_0 20 rfl rfl)
theorem dX2_init_21 : decode cX2_init 21 = .ok (.iconst 4, 1) := dk_7 (dk_at dksX2_init_0 21 rfl rfl)
theorem dX2_init_22 : decode cX2_init 22 = .ok (.newarray .int, 2) := dk_188_10 (dk_at dksX2_init_0 22 rfl rfl)
theorem dX2_init_24 : decode cX2_init 24 = .ok (.putfield 17, 3) := dk_181 0 17 (dk_at dksX2_init_1 0 rfl rfl)
theorem dX2_init_27 : decode cX2_init 27 = .ok (.aload_n 0, 1) := dk_42 (dk_at dksX2_init_1 3 rfl rfl)
theorem dX2_init_28 : decode cX2_init 28 = .ok (.iconst 4, 1) := dk_7 (dk_at dksX2_init_1 4 rfl rfl)
theorem dX2_init_29 : decode cX2_init 29 = .ok (.newarray .int, 2) := dk_188_10 (dk_at dksX2_init_1 5 rfl rfl)
theorem dX2_init_31 : decode cX2_init 31 = .ok (.putfield 20, 3) := dk_181 0 20 (dk_at dksX2_init_1 7 rfl rfl)
theorem dX2_init_34 : decode cX2_init 34 = .ok (.aload_n 0, 1) := dk_42 (dk_at dksX2_init_1 10 rfl rfl)
theorem dX2_init_35 : decode cX2_init 35 = .ok (.bipush 12, 2) := dk_16 12 (dk_at dksX2_init_1 11 rfl rfl)
theorem dX2_init_37 : decode cX2_init 37 = .ok (.newarray .int, 2) := dk_188_10 (dk_at dksX2_init_1 13 rfl rfl)
theorem dX2_init_39 : decode cX2_init 39 = .ok (.putfield 23, 3) := dk_181 0 23 (dk_at dksX2_init_1 15 rfl rfl)
theorem dX2_init_42 : decode cX2_init 42 = .ok (.aload_n 0, 1) := dk_42 (dk_at dksX2_init_1 18 rfl rfl)
theorem dX2_init_43 : decode cX2_init 43 = .ok (.sipush 976, 3) := dk_17 3 208 (dk_at dksX2_init_1 19 rfl rfl)
theorem dX2_init_46 : decode cX2_init 46 = .ok (.newarray .int, 2) := dk_188_10 (dk_at dksX2_init_1 22 rfl rfl)
theorem dX2_init_48 : decode cX2_init 48 = .ok (.putfield 26, 3) := dk_181 0 26 (dk_at dksX2_init_2 0 rfl rfl)
theorem dX2_init_51 : decode cX2_init 51 = .ok (.aload_n 0, 1) := dk_42 (dk_at dksX2_init_2 3 rfl rfl)
theorem dX2_init_52 : decode cX2_init 52 = .ok (.sipush 968, 3) := dk_17 3 200 (dk_at dksX2_init_2 4 rfl rfl)
theorem dX2_init_55 : decode cX2_init 55 = .ok (.newarray .int, 2) := dk_188_10 (dk_at dksX2_init_2 7 rfl rfl)
theorem dX2_init_57 : decode cX2_init 57 = .ok (.putfield 29, 3) := dk_181 0 29 (dk_at dksX2_init_2 9 rfl rfl)
theorem dX2_init_60 : decode cX2_init 60 = .ok (.aload_n 0, 1) := dk_42 (dk_at dksX2_init_2 12 rfl rfl)
theorem dX2_init_61 : decode cX2_init 61 = .ok (.sipush 136, 3) := dk_17 0 136 (dk_at dksX2_init_2 13 rfl rfl)
theorem dX2_init_64 : decode cX2_init 64 = .ok (.newarray .int, 2) := dk_188_10 (dk_at dksX2_init_2 16 rfl rfl)
theorem dX2_init_66 : decode cX2_init 66 = .ok (.putfield 32, 3) := dk_181 0 32 (dk_at dksX2_init_2 18 rfl rfl)
theorem dX2_init_69 : decode cX2_init 69 = .ok (.aload_n 0, 1) := dk_42 (dk_at dksX2_init_2 21 rfl rfl)
theorem dX2_init_70 : decode cX2_init 70 = .ok (.bipush 122, 2) := dk_16 122 (dk_at dksX2_init_2 22 rfl rfl)
theorem dX2_init_72 : decode cX2_init 72 = .ok (.newarray .int, 2) := dk_188_10 (dk_at dksX2_init_3 0 rfl rfl)
theorem dX2_init_74 : decode cX2_init 74 = .ok (.putfield 35, 3) := dk_181 0 35 (dk_at dksX2_init_3 2 rfl rfl)
theorem dX2_init_77 : decode cX2_init 77 = .ok (.aload_n 0, 1) := dk_42 (dk_at dksX2_init_3 5 rfl rfl)
theorem dX2_init_78 : decode cX2_init 78 = .ok (.iconst 4, 1) := dk_7 (dk_at dksX2_init_3 6 rfl rfl)
theorem dX2_init_79 : decode cX2_init 79 = .ok (.newarray .int, 2) := dk_188_10 (dk_at dksX2_init_3 7 rfl rfl)
theorem dX2_init_81 : decode cX2_init 81 = .ok (.putfield 38, 3) := dk_181 0 38 (dk_at dksX2_init_3 9 rfl rfl)
theorem dX2_init_84 : decode cX2_init 84 = .ok (.aload_n 0, 1) := dk_42 (dk_at dksX2_init_3 12 rfl rfl)
theorem dX2_init_85 : decode cX2_init 85 = .ok (.bipush 36, 2) := dk_16 36 (dk_at dksX2_init_3 13 rfl rfl)
theorem dX2_init_87 : decode cX2_init 87 = .ok (.newarray .int, 2) := dk_188_10 (dk_at dksX2_init_3 15 rfl rfl)
theorem dX2_init_89 : decode cX2_init 89 = .ok (.putfield 41, 3) := dk_181 0 41 (dk_at dksX2_init_3 17 rfl rfl)
theorem dX2_init_92 : decode cX2_init 92 = .ok (.aload_n 0, 1) := dk_42 (dk_at dksX2_init_3 20 rfl rfl)
theorem dX2_init_93 : decode cX2_init 93 = .ok (.bipush 6, 2) := dk_16 6 (dk_at dksX2_init_3 21 rfl rfl)
theorem dX2_init_95 : decode cX2_init 95 = .ok (.newarray .long, 2) := dk_188_11 (dk_at dksX2_init_4 0 rfl rfl)
theorem dX2_init_97 : decode cX2_init 97 = .ok (.putfield 44, 3) := dk_181 0 44 (dk_at dksX2_init_4 2 rfl rfl)
theorem dX2_init_100 : decode cX2_init 100 = .ok (.aload_n 0, 1) := dk_42 (dk_at dksX2_init_4 5 rfl rfl)
theorem dX2_init_101 : decode cX2_init 101 = .ok (.bipush 36, 2) := dk_16 36 (dk_at dksX2_init_4 6 rfl rfl)
theorem dX2_init_103 : decode cX2_init 103 = .ok (.newarray .int, 2) := dk_188_10 (dk_at dksX2_init_4 8 rfl rfl)
theorem dX2_init_105 : decode cX2_init 105 = .ok (.putfield 48, 3) := dk_181 0 48 (dk_at dksX2_init_4 10 rfl rfl)
theorem dX2_init_108 : decode cX2_init 108 = .ok (.aload_n 0, 1) := dk_42 (dk_at dksX2_init_4 13 rfl rfl)
theorem dX2_init_109 : decode cX2_init 109 = .ok (.bipush 6, 2) := dk_16 6 (dk_at dksX2_init_4 14 rfl rfl)
theorem dX2_init_111 : decode cX2_init 111 = .ok (.newarray .int, 2) := dk_188_10 (dk_at dksX2_init_4 16 rfl rfl)
theorem dX2_init_113 : decode cX2_init 113 = .ok (.putfield 51, 3) := dk_181 0 51 (dk_at dksX2_init_4 18 rfl rfl)
theorem dX2_init_116 : decode cX2_init 116 = .ok (.aload_n 0, 1) := dk_42 (dk_at dksX2_init_4 21 rfl rfl)
theorem dX2_init_117 : decode cX2_init 117 = .ok (.bipush 36, 2) := dk_16 36 (dk_at dksX2_init_4 22 rfl rfl)
theorem dX2_init_119 : decode cX2_init 119 = .ok (.newarray .int, 2) := dk_188_10 (dk_at dksX2_init_5 0 rfl rfl)
theorem dX2_init_121 : decode cX2_init 121 = .ok (.putfield 54, 3) := dk_181 0 54 (dk_at dksX2_init_5 2 rfl rfl)
theorem dX2_init_124 : decode cX2_init 124 = .ok (.aload_n 0, 1) := dk_42 (dk_at dksX2_init_5 5 rfl rfl)
theorem dX2_init_125 : decode cX2_init 125 = .ok (.bipush 36, 2) := dk_16 36 (dk_at dksX2_init_5 6 rfl rfl)
theorem dX2_init_127 : decode cX2_init 127 = .ok (.newarray .int, 2) := dk_188_10 (dk_at dksX2_init_5 8 rfl rfl)
theorem dX2_init_129 : decode cX2_init 129 = .ok (.putfield 57, 3) := dk_181 0 57 (dk_at dksX2_init_5 10 rfl rfl)
theorem dX2_init_132 : decode cX2_init 132 = .ok (.aload_n 0, 1) := dk_42 (dk_at dksX2_init_5 13 rfl rfl)
theorem dX2_init_133 : decode cX2_init 133 = .ok (.bipush 36, 2) := dk_16 36 (dk_at dksX2_init_5 14 rfl rfl)
theorem dX2_init_135 : decode cX2_init 135 = .ok (.newarray .int, 2) := dk_188_10 (dk_at dksX2_init_5 16 rfl rfl)
theorem dX2_init_137 : decode cX2_init 137 = .ok (.putfield 60, 3) := dk_181 0 60 (dk_at dksX2_init_5 18 rfl rfl)
theorem dX2_init_140 : decode cX2_init 140 = .ok (.aload_n 0, 1) := dk_42 (dk_at dksX2_init_5 21 rfl rfl)
theorem dX2_init_141 : decode cX2_init 141 = .ok (.bipush 6, 2) := dk_16 6 (dk_at dksX2_init_5 22 rfl rfl)
theorem dX2_init_143 : decode cX2_init 143 = .ok (.newarray .int, 2) := dk_188_10 (dk_at dksX2_init_6 0 rfl rfl)
theorem dX2_init_145 : decode cX2_init 145 = .ok (.putfield 63, 3) := dk_181 0 63 (dk_at dksX2_init_6 2 rfl rfl)
theorem dX2_init_148 : decode cX2_init 148 = .ok (.aload_n 0, 1) := dk_42 (dk_at dksX2_init_6 5 rfl rfl)
theorem dX2_init_149 : decode cX2_init 149 = .ok (.sipush 384, 3) := dk_17 1 128 (dk_at dksX2_init_6 6 rfl rfl)
theorem dX2_init_152 : decode cX2_init 152 = .ok (.newarray .int, 2) := dk_188_10 (dk_at dksX2_init_6 9 rfl rfl)
theorem dX2_init_154 : decode cX2_init 154 = .ok (.putfield 66, 3) := dk_181 0 66 (dk_at dksX2_init_6 11 rfl rfl)
theorem dX2_init_157 : decode cX2_init 157 = .ok (.aload_n 0, 1) := dk_42 (dk_at dksX2_init_6 14 rfl rfl)
theorem dX2_init_158 : decode cX2_init 158 = .ok (.sipush 384, 3) := dk_17 1 128 (dk_at dksX2_init_6 15 rfl rfl)
theorem dX2_init_161 : decode cX2_init 161 = .ok (.newarray .int, 2) := dk_188_10 (dk_at dksX2_init_6 18 rfl rfl)
theorem dX2_init_163 : decode cX2_init 163 = .ok (.putfield 69, 3) := dk_181 0 69 (dk_at dksX2_init_6 20 rfl rfl)
theorem dX2_init_166 : decode cX2_init 166 = .ok (.aload_n 0, 1) := dk_42 (dk_at dksX2_init_6 23 rfl rfl)
theorem dX2_init_167 : decode cX2_init 167 = .ok (.sipush 384, 3) := dk_17 1 128 (dk_at dksX2_init_7 0 rfl rfl)
theorem dX2_init_170 : decode cX2_init 170 = .ok (.newarray .int, 2) := dk_188_10 (dk_at dksX2_init_7 3 rfl rfl)
theorem dX2_init_172 : decode cX2_init 172 = .ok (.putfield 72, 3) := dk_181 0 72 (dk_at dksX2_init_7 5 rfl rfl)
theorem dX2_init_175 : decode cX2_init 175 = .ok (.aload_n 0, 1) := dk_42 (dk_at dksX2_init_7 8 rfl rfl)
theorem dX2_init_176 : decode cX2_init 176 = .ok (.sipush 384, 3) := dk_17 1 128 (dk_at dksX2_init_7 9 rfl rfl)
theorem dX2_init_179 : decode cX2_init 179 = .ok (.newarray .long, 2) := dk_188_11 (dk_at dksX2_init_7 12 rfl rfl)
theorem dX2_init_181 : decode cX2_init 181 = .ok (.putfield 75, 3) := dk_181 0 75 (dk_at dksX2_init_7 14 rfl rfl)
theorem dX2_init_184 : decode cX2_init 184 = .ok (.aload_n 0, 1) := dk_42 (dk_at dksX2_init_7 17 rfl rfl)
theorem dX2_init_185 : decode cX2_init 185 = .ok (.sipush 384, 3) := dk_17 1 128 (dk_at dksX2_init_7 18 rfl rfl)
theorem dX2_init_188 : decode cX2_init 188 = .ok (.newarray .long, 2) := dk_188_11 (dk_at dksX2_init_7 21 rfl rfl)
theorem dX2_init_190 : decode cX2_init 190 = .ok (.putfield 78, 3) := dk_181 0 78 (dk_at dksX2_init_8 0 rfl rfl)
theorem dX2_init_193 : decode cX2_init 193 = .ok (.aload_n 0, 1) := dk_42 (dk_at dksX2_init_8 3 rfl rfl)
theorem dX2_init_194 : decode cX2_init 194 = .ok (.sipush 384, 3) := dk_17 1 128 (dk_at dksX2_init_8 4 rfl rfl)
theorem dX2_init_197 : decode cX2_init 197 = .ok (.newarray .int, 2) := dk_188_10 (dk_at dksX2_init_8 7 rfl rfl)
theorem dX2_init_199 : decode cX2_init 199 = .ok (.putfield 81, 3) := dk_181 0 81 (dk_at dksX2_init_8 9 rfl rfl)
theorem dX2_init_202 : decode cX2_init 202 = .ok (.aload_n 0, 1) := dk_42 (dk_at dksX2_init_8 12 rfl rfl)
theorem dX2_init_203 : decode cX2_init 203 = .ok (.sipush 384, 3) := dk_17 1 128 (dk_at dksX2_init_8 13 rfl rfl)
theorem dX2_init_206 : decode cX2_init 206 = .ok (.newarray .int, 2) := dk_188_10 (dk_at dksX2_init_8 16 rfl rfl)
theorem dX2_init_208 : decode cX2_init 208 = .ok (.putfield 84, 3) := dk_181 0 84 (dk_at dksX2_init_8 18 rfl rfl)
theorem dX2_init_211 : decode cX2_init 211 = .ok (.aload_n 0, 1) := dk_42 (dk_at dksX2_init_8 21 rfl rfl)
theorem dX2_init_212 : decode cX2_init 212 = .ok (.sipush 384, 3) := dk_17 1 128 (dk_at dksX2_init_9 0 rfl rfl)
theorem dX2_init_215 : decode cX2_init 215 = .ok (.newarray .int, 2) := dk_188_10 (dk_at dksX2_init_9 3 rfl rfl)
theorem dX2_init_217 : decode cX2_init 217 = .ok (.putfield 87, 3) := dk_181 0 87 (dk_at dksX2_init_9 5 rfl rfl)
theorem dX2_init_220 : decode cX2_init 220 = .ok (.aload_n 0, 1) := dk_42 (dk_at dksX2_init_9 8 rfl rfl)
theorem dX2_init_221 : decode cX2_init 221 = .ok (.sipush 384, 3) := dk_17 1 128 (dk_at dksX2_init_9 9 rfl rfl)
theorem dX2_init_224 : decode cX2_init 224 = .ok (.newarray .int, 2) := dk_188_10 (dk_at dksX2_init_9 12 rfl rfl)
theorem dX2_init_226 : decode cX2_init 226 = .ok (.putfield 90, 3) := dk_181 0 90 (dk_at dksX2_init_9 14 rfl rfl)
theorem dX2_init_229 : decode cX2_init 229 = .ok (.aload_n 0, 1) := dk_42 (dk_at dksX2_init_9 17 rfl rfl)
theorem dX2_init_230 : decode cX2_init 230 = .ok (.sipush 384, 3) := dk_17 1 128 (dk_at dksX2_init_9 18 rfl rfl)
theorem dX2_init_233 : decode cX2_init 233 = .ok (.newarray .int, 2) := dk_188_10 (dk_at dksX2_init_9 21 rfl rfl)
theorem dX2_init_235 : decode cX2_init 235 = .ok (.putfield 93, 3) := dk_181 0 93 (dk_at dksX2_init_10 0 rfl rfl)
theorem dX2_init_238 : decode cX2_init 238 = .ok (.aload_n 0, 1) := dk_42 (dk_at dksX2_init_10 3 rfl rfl)
theorem dX2_init_239 : decode cX2_init 239 = .ok (.sipush 4096, 3) := dk_17 16 0 (dk_at dksX2_init_10 4 rfl rfl)
theorem dX2_init_242 : decode cX2_init 242 = .ok (.newarray .int, 2) := dk_188_10 (dk_at dksX2_init_10 7 rfl rfl)
theorem dX2_init_244 : decode cX2_init 244 = .ok (.putfield 96, 3) := dk_181 0 96 (dk_at dksX2_init_10 9 rfl rfl)
theorem dX2_init_247 : decode cX2_init 247 = .ok (.aload_n 0, 1) := dk_42 (dk_at dksX2_init_10 12 rfl rfl)
theorem dX2_init_248 : decode cX2_init 248 = .ok (.sipush 4096, 3) := dk_17 16 0 (dk_at dksX2_init_10 13 rfl rfl)
theorem dX2_init_251 : decode cX2_init 251 = .ok (.newarray .int, 2) := dk_188_10 (dk_at dksX2_init_10 16 rfl rfl)
theorem dX2_init_253 : decode cX2_init 253 = .ok (.putfield 99, 3) := dk_181 0 99 (dk_at dksX2_init_10 18 rfl rfl)
theorem dX2_init_256 : decode cX2_init 256 = .ok (.aload_n 0, 1) := dk_42 (dk_at dksX2_init_10 21 rfl rfl)
theorem dX2_init_257 : decode cX2_init 257 = .ok (.sipush 4096, 3) := dk_17 16 0 (dk_at dksX2_init_11 0 rfl rfl)
theorem dX2_init_260 : decode cX2_init 260 = .ok (.newarray .int, 2) := dk_188_10 (dk_at dksX2_init_11 3 rfl rfl)
theorem dX2_init_262 : decode cX2_init 262 = .ok (.putfield 102, 3) := dk_181 0 102 (dk_at dksX2_init_11 5 rfl rfl)
theorem dX2_init_265 : decode cX2_init 265 = .ok (.aload_n 0, 1) := dk_42 (dk_at dksX2_init_11 8 rfl rfl)
theorem dX2_init_266 : decode cX2_init 266 = .ok (.sipush 4096, 3) := dk_17 16 0 (dk_at dksX2_init_11 9 rfl rfl)
theorem dX2_init_269 : decode cX2_init 269 = .ok (.newarray .int, 2) := dk_188_10 (dk_at dksX2_init_11 12 rfl rfl)
theorem dX2_init_271 : decode cX2_init 271 = .ok (.putfield 105, 3) := dk_181 0 105 (dk_at dksX2_init_11 14 rfl rfl)
theorem dX2_init_274 : decode cX2_init 274 = .ok (.aload_n 0, 1) := dk_42 (dk_at dksX2_init_11 17 rfl rfl)
theorem dX2_init_275 : decode cX2_init 275 = .ok (.sipush 4096, 3) := dk_17 16 0 (dk_at dksX2_init_11 18 rfl rfl)
theorem dX2_init_278 : decode cX2_init 278 = .ok (.newarray .int, 2) := dk_188_10 (dk_at dksX2_init_11 21 rfl rfl)
theorem dX2_init_280 : decode cX2_init 280 = .ok (.putfield 108, 3) := dk_181 0 108 (dk_at dksX2_init_12 0 rfl rfl)
theorem dX2_init_283 : decode cX2_init 283 = .ok (.aload_n 0, 1) := dk_42 (dk_at dksX2_init_12 3 rfl rfl)
theorem dX2_init_284 : decode cX2_init 284 = .ok (.sipush 4096, 3) := dk_17 16 0 (dk_at dksX2_init_12 4 rfl rfl)
theorem dX2_init_287 : decode cX2_init 287 = .ok (.newarray .int, 2) := dk_188_10 (dk_at dksX2_init_12 7 rfl rfl)
theorem dX2_init_289 : decode cX2_init 289 = .ok (.putfield 111, 3) := dk_181 0 111 (dk_at dksX2_init_12 9 rfl rfl)
theorem dX2_init_292 : decode cX2_init 292 = .ok (.aload_n 0, 1) := dk_42 (dk_at dksX2_init_12 12 rfl rfl)
theorem dX2_init_293 : decode cX2_init 293 = .ok (.sipush 4096, 3) := dk_17 16 0 (dk_at dksX2_init_12 13 rfl rfl)
theorem dX2_init_296 : decode cX2_init 296 = .ok (.newarray .int, 2) := dk_188_10 (dk_at dksX2_init_12 16 rfl rfl)
theorem dX2_init_298 : decode cX2_init 298 = .ok (.putfield 114, 3) := dk_181 0 114 (dk_at dksX2_init_12 18 rfl rfl)
theorem dX2_init_301 : decode cX2_init 301 = .ok (.aload_n 0, 1) := dk_42 (dk_at dksX2_init_12 21 rfl rfl)
theorem dX2_init_302 : decode cX2_init 302 = .ok (.sipush 4096, 3) := dk_17 16 0 (dk_at dksX2_init_13 0 rfl rfl)
theorem dX2_init_305 : decode cX2_init 305 = .ok (.newarray .int, 2) := dk_188_10 (dk_at dksX2_init_13 3 rfl rfl)
theorem dX2_init_307 : decode cX2_init 307 = .ok (.putfield 117, 3) := dk_181 0 117 (dk_at dksX2_init_13 5 rfl rfl)
theorem dX2_init_310 : decode cX2_init 310 = .ok (.aload_n 0, 1) := dk_42 (dk_at dksX2_init_13 8 rfl rfl)
theorem dX2_init_311 : decode cX2_init 311 = .ok (.sipush 4096, 3) := dk_17 16 0 (dk_at dksX2_init_13 9 rfl rfl)
theorem dX2_init_314 : decode cX2_init 314 = .ok (.newarray .int, 2) := dk_188_10 (dk_at dksX2_init_13 12 rfl rfl)
theorem dX2_init_316 : decode cX2_init 316 = .ok (.putfield 120, 3) := dk_181 0 120 (dk_at dksX2_init_13 14 rfl rfl)
theorem dX2_init_319 : decode cX2_init 319 = .ok (.aload_n 0, 1) := dk_42 (dk_at dksX2_init_13 17 rfl rfl)
theorem dX2_init_320 : decode cX2_init 320 = .ok (.sipush 4096, 3) := dk_17 16 0 (dk_at dksX2_init_13 18 rfl rfl)
theorem dX2_init_323 : decode cX2_init 323 = .ok (.newarray .int, 2) := dk_188_10 (dk_at dksX2_init_13 21 rfl rfl)
theorem dX2_init_325 : decode cX2_init 325 = .ok (.putfield 123, 3) := dk_181 0 123 (dk_at dksX2_init_14 0 rfl rfl)
theorem dX2_init_328 : decode cX2_init 328 = .ok (.aload_n 0, 1) := dk_42 (dk_at dksX2_init_14 3 rfl rfl)
theorem dX2_init_329 : decode cX2_init 329 = .ok (.sipush 4096, 3) := dk_17 16 0 (dk_at dksX2_init_14 4 rfl rfl)
theorem dX2_init_332 : decode cX2_init 332 = .ok (.newarray .int, 2) := dk_188_10 (dk_at dksX2_init_14 7 rfl rfl)
theorem dX2_init_334 : decode cX2_init 334 = .ok (.putfield 126, 3) := dk_181 0 126 (dk_at dksX2_init_14 9 rfl rfl)
theorem dX2_init_337 : decode cX2_init 337 = .ok (.aload_n 0, 1) := dk_42 (dk_at dksX2_init_14 12 rfl rfl)
theorem dX2_init_338 : decode cX2_init 338 = .ok (.bipush 64, 2) := dk_16 64 (dk_at dksX2_init_14 13 rfl rfl)
theorem dX2_init_340 : decode cX2_init 340 = .ok (.newarray .int, 2) := dk_188_10 (dk_at dksX2_init_14 15 rfl rfl)
theorem dX2_init_342 : decode cX2_init 342 = .ok (.putfield 129, 3) := dk_181 0 129 (dk_at dksX2_init_14 17 rfl rfl)
theorem dX2_init_345 : decode cX2_init 345 = .ok (.aload_n 0, 1) := dk_42 (dk_at dksX2_init_14 20 rfl rfl)
theorem dX2_init_346 : decode cX2_init 346 = .ok (.bipush 64, 2) := dk_16 64 (dk_at dksX2_init_14 21 rfl rfl)
theorem dX2_init_348 : decode cX2_init 348 = .ok (.newarray .int, 2) := dk_188_10 (dk_at dksX2_init_15 0 rfl rfl)
theorem dX2_init_350 : decode cX2_init 350 = .ok (.putfield 132, 3) := dk_181 0 132 (dk_at dksX2_init_15 2 rfl rfl)
theorem dX2_init_353 : decode cX2_init 353 = .ok (.aload_n 0, 1) := dk_42 (dk_at dksX2_init_15 5 rfl rfl)
theorem dX2_init_354 : decode cX2_init 354 = .ok (.bipush 64, 2) := dk_16 64 (dk_at dksX2_init_15 6 rfl rfl)
theorem dX2_init_356 : decode cX2_init 356 = .ok (.newarray .int, 2) := dk_188_10 (dk_at dksX2_init_15 8 rfl rfl)
theorem dX2_init_358 : decode cX2_init 358 = .ok (.putfield 135, 3) := dk_181 0 135 (dk_at dksX2_init_15 10 rfl rfl)
theorem dX2_init_361 : decode cX2_init 361 = .ok (.aload_n 0, 1) := dk_42 (dk_at dksX2_init_15 13 rfl rfl)
theorem dX2_init_362 : decode cX2_init 362 = .ok (.bipush 64, 2) := dk_16 64 (dk_at dksX2_init_15 14 rfl rfl)
theorem dX2_init_364 : decode cX2_init 364 = .ok (.newarray .int, 2) := dk_188_10 (dk_at dksX2_init_15 16 rfl rfl)
theorem dX2_init_366 : decode cX2_init 366 = .ok (.putfield 138, 3) := dk_181 0 138 (dk_at dksX2_init_15 18 rfl rfl)
theorem dX2_init_369 : decode cX2_init 369 = .ok (.aload_n 0, 1) := dk_42 (dk_at dksX2_init_15 21 rfl rfl)
theorem dX2_init_370 : decode cX2_init 370 = .ok (.bipush 64, 2) := dk_16 64 (dk_at dksX2_init_15 22 rfl rfl)
theorem dX2_init_372 : decode cX2_init 372 = .ok (.newarray .int, 2) := dk_188_10 (dk_at dksX2_init_16 0 rfl rfl)
theorem dX2_init_374 : decode cX2_init 374 = .ok (.putfield 141, 3) := dk_181 0 141 (dk_at dksX2_init_16 2 rfl rfl)
theorem dX2_init_377 : decode cX2_init 377 = .ok (.aload_n 0, 1) := dk_42 (dk_at dksX2_init_16 5 rfl rfl)
theorem dX2_init_378 : decode cX2_init 378 = .ok (.bipush 64, 2) := dk_16 64 (dk_at dksX2_init_16 6 rfl rfl)
theorem dX2_init_380 : decode cX2_init 380 = .ok (.newarray .int, 2) := dk_188_10 (dk_at dksX2_init_16 8 rfl rfl)
theorem dX2_init_382 : decode cX2_init 382 = .ok (.putfield 144, 3) := dk_181 0 144 (dk_at dksX2_init_16 10 rfl rfl)
theorem dX2_init_385 : decode cX2_init 385 = .ok (.aload_n 0, 1) := dk_42 (dk_at dksX2_init_16 13 rfl rfl)
theorem dX2_init_386 : decode cX2_init 386 = .ok (.bipush 64, 2) := dk_16 64 (dk_at dksX2_init_16 14 rfl rfl)
theorem dX2_init_388 : decode cX2_init 388 = .ok (.newarray .int, 2) := dk_188_10 (dk_at dksX2_init_16 16 rfl rfl)
theorem dX2_init_390 : decode cX2_init 390 = .ok (.putfield 147, 3) := dk_181 0 147 (dk_at dksX2_init_16 18 rfl rfl)
theorem dX2_init_393 : decode cX2_init 393 = .ok (.aload_n 0, 1) := dk_42 (dk_at dksX2_init_16 21 rfl rfl)
theorem dX2_init_394 : decode cX2_init 394 = .ok (.bipush 64, 2) := dk_16 64 (dk_at dksX2_init_16 22 rfl rfl)
theorem dX2_init_396 : decode cX2_init 396 = .ok (.newarray .int, 2) := dk_188_10 (dk_at dksX2_init_17 0 rfl rfl)
theorem dX2_init_398 : decode cX2_init 398 = .ok (.putfield 150, 3) := dk_181 0 150 (dk_at dksX2_init_17 2 rfl rfl)
theorem dX2_init_401 : decode cX2_init 401 = .ok (.aload_n 0, 1) := dk_42 (dk_at dksX2_init_17 5 rfl rfl)
theorem dX2_init_402 : decode cX2_init 402 = .ok (.bipush 48, 2) := dk_16 48 (dk_at dksX2_init_17 6 rfl rfl)
theorem dX2_init_404 : decode cX2_init 404 = .ok (.newarray .int, 2) := dk_188_10 (dk_at dksX2_init_17 8 rfl rfl)
theorem dX2_init_406 : decode cX2_init 406 = .ok (.putfield 153, 3) := dk_181 0 153 (dk_at dksX2_init_17 10 rfl rfl)
theorem dX2_init_409 : decode cX2_init 409 = .ok (.aload_n 0, 1) := dk_42 (dk_at dksX2_init_17 13 rfl rfl)
theorem dX2_init_410 : decode cX2_init 410 = .ok (.bipush 8, 2) := dk_16 8 (dk_at dksX2_init_17 14 rfl rfl)
theorem dX2_init_412 : decode cX2_init 412 = .ok (.newarray .int, 2) := dk_188_10 (dk_at dksX2_init_17 16 rfl rfl)
theorem dX2_init_414 : decode cX2_init 414 = .ok (.putfield 156, 3) := dk_181 0 156 (dk_at dksX2_init_17 18 rfl rfl)
theorem dX2_init_417 : decode cX2_init 417 = .ok (.aload_n 0, 1) := dk_42 (dk_at dksX2_init_17 21 rfl rfl)
theorem dX2_init_418 : decode cX2_init 418 = .ok (.bipush 36, 2) := dk_16 36 (dk_at dksX2_init_17 22 rfl rfl)
theorem dX2_init_420 : decode cX2_init 420 = .ok (.newarray .int, 2) := dk_188_10 (dk_at dksX2_init_18 0 rfl rfl)
theorem dX2_init_422 : decode cX2_init 422 = .ok (.putfield 159, 3) := dk_181 0 159 (dk_at dksX2_init_18 2 rfl rfl)
theorem dX2_init_425 : decode cX2_init 425 = .ok (.aload_n 0, 1) := dk_42 (dk_at dksX2_init_18 5 rfl rfl)
theorem dX2_init_426 : decode cX2_init 426 = .ok (.bipush 40, 2) := dk_16 40 (dk_at dksX2_init_18 6 rfl rfl)
theorem dX2_init_428 : decode cX2_init 428 = .ok (.newarray .int, 2) := dk_188_10 (dk_at dksX2_init_18 8 rfl rfl)
theorem dX2_init_430 : decode cX2_init 430 = .ok (.putfield 162, 3) := dk_181 0 162 (dk_at dksX2_init_18 10 rfl rfl)
theorem dX2_init_433 : decode cX2_init 433 = .ok (.aload_n 0, 1) := dk_42 (dk_at dksX2_init_18 13 rfl rfl)
theorem dX2_init_434 : decode cX2_init 434 = .ok (.iconst 3, 1) := dk_6 (dk_at dksX2_init_18 14 rfl rfl)
theorem dX2_init_435 : decode cX2_init 435 = .ok (.newarray .boolean, 2) := dk_188_4 (dk_at dksX2_init_18 15 rfl rfl)
theorem dX2_init_437 : decode cX2_init 437 = .ok (.putfield 165, 3) := dk_181 0 165 (dk_at dksX2_init_18 17 rfl rfl)
theorem dX2_init_440 : decode cX2_init 440 = .ok (.aload_n 0, 1) := dk_42 (dk_at dksX2_init_18 20 rfl rfl)
theorem dX2_init_441 : decode cX2_init 441 = .ok (.getfield 20, 3) := dk_180 0 20 (dk_at dksX2_init_18 21 rfl rfl)
theorem dX2_init_444 : decode cX2_init 444 = .ok (.iconst 0, 1) := dk_3 (dk_at dksX2_init_19 0 rfl rfl)
theorem dX2_init_445 : decode cX2_init 445 = .ok (.iconst (-1), 1) := dk_2 (dk_at dksX2_init_19 1 rfl rfl)
theorem dX2_init_446 : decode cX2_init 446 = .ok (.iastore, 1) := dk_79 (dk_at dksX2_init_19 2 rfl rfl)
theorem dX2_init_447 : decode cX2_init 447 = .ok (.return_, 1) := dk_177 (dk_at dksX2_init_19 3 rfl rfl)
abbrev cX2_feed : ByteArray := prog_25_method_11_code
def yX2_feed : MethodName := ⟨RX2, "feed", "(IIIII)I"⟩
def dkwX2_feed_2 : List UInt8 := [182, 0, 185, 42, 180, 0, 13, 3, 46, 172]
abbrev dktX2_feed_2 : List UInt8 := dkwX2_feed_2 ++ []
def dkwX2_feed_1 : List UInt8 := [182, 0, 185, 42, 28, 182, 0, 185, 42, 29, 182, 0, 185, 42, 21, 4, 182, 0, 185, 42, 21, 5]
abbrev dktX2_feed_1 : List UInt8 := dkwX2_feed_1 ++ dktX2_feed_2
def dkwX2_feed_0 : List UInt8 := [42, 3, 181, 0, 169, 42, 180, 0, 13, 3, 46, 16, 20, 96, 17, 2, 88, 164, 0, 5, 2, 172, 42, 27]
abbrev dktX2_feed_0 : List UInt8 := dkwX2_feed_0 ++ dktX2_feed_1
theorem dksX2_feed_0 : cX2_feed.data.toList.drop 0 = dktX2_feed_0 := by decide +kernel
theorem dksX2_feed_1 : cX2_feed.data.toList.drop 24 = dktX2_feed_1 := dk_seg dksX2_feed_0 24 rfl rfl
theorem dksX2_feed_2 : cX2_feed.data.toList.drop 46 = dktX2_feed_2 := dk_seg dksX2_feed_1 22 rfl rfl
theorem dX2_feed_0 : decode cX2_feed 0 = .ok (.aload_n 0, 1) := dk_42 (dk_at dksX2_feed_0 0 rfl rfl)
theorem dX2_feed_1 : decode cX2_feed 1 = .ok (.iconst 0, 1) := dk_3 (dk_at dksX2_feed_0 1 rfl rfl)
theorem dX2_feed_2 : decode cX2_feed 2 = .ok (.putfield 169, 3) := dk_181 0 169 (dk_at dksX2_feed_0 2 rfl rfl)
theorem dX2_feed_5 : decode cX2_feed 5 = .ok (.aload_n 0, 1) := dk_42 (dk_at dksX2_feed_0 5 rfl rfl)
theorem dX2_feed_6 : decode cX2_feed 6 = .ok (.getfield 13, 3) := dk_180 0 13 (dk_at dksX2_feed_0 6 rfl rfl)
theorem dX2_feed_9 : decode cX2_feed 9 = .ok (.iconst 0, 1) := dk_3 (dk_at dksX2_feed_0 9 rfl rfl)
theorem dX2_feed_10 : decode cX2_feed 10 = .ok (.iaload, 1) := dk_46 (dk_at dksX2_feed_0 10 rfl rfl)
theorem dX2_feed_11 : decode cX2_feed 11 = .ok (.bipush 20, 2) := dk_16 20 (dk_at dksX2_feed_0 11 rfl rfl)
theorem dX2_feed_13 : decode cX2_feed 13 = .ok (.iadd, 1) := dk_96 (dk_at dksX2_feed_0 13 rfl rfl)
theorem dX2_feed_14 : decode cX2_feed 14 = .ok (.sipush 600, 3) := dk_17 2 88 (dk_at dksX2_feed_0 14 rfl rfl)
theorem dX2_feed_17 : decode cX2_feed 17 = .ok (.if_icmp .le 5, 3) := dk_164 0 5 (dk_at dksX2_feed_0 17 rfl rfl)
theorem dX2_feed_20 : decode cX2_feed 20 = .ok (.iconst (-1), 1) := dk_2 (dk_at dksX2_feed_0 20 rfl rfl)
theorem dX2_feed_21 : decode cX2_feed 21 = .ok (.ireturn, 1) := dk_172 (dk_at dksX2_feed_0 21 rfl rfl)
theorem dX2_feed_22 : decode cX2_feed 22 = .ok (.aload_n 0, 1) := dk_42 (dk_at dksX2_feed_0 22 rfl rfl)
theorem dX2_feed_23 : decode cX2_feed 23 = .ok (.iload_n 1, 1) := dk_27 (dk_at dksX2_feed_0 23 rfl rfl)
theorem dX2_feed_24 : decode cX2_feed 24 = .ok (.invokevirtual 185, 3) := dk_182 0 185 (dk_at dksX2_feed_1 0 rfl rfl)
theorem dX2_feed_27 : decode cX2_feed 27 = .ok (.aload_n 0, 1) := dk_42 (dk_at dksX2_feed_1 3 rfl rfl)
theorem dX2_feed_28 : decode cX2_feed 28 = .ok (.iload_n 2, 1) := dk_28 (dk_at dksX2_feed_1 4 rfl rfl)
theorem dX2_feed_29 : decode cX2_feed 29 = .ok (.invokevirtual 185, 3) := dk_182 0 185 (dk_at dksX2_feed_1 5 rfl rfl)
theorem dX2_feed_32 : decode cX2_feed 32 = .ok (.aload_n 0, 1) := dk_42 (dk_at dksX2_feed_1 8 rfl rfl)
theorem dX2_feed_33 : decode cX2_feed 33 = .ok (.iload_n 3, 1) := dk_29 (dk_at dksX2_feed_1 9 rfl rfl)
theorem dX2_feed_34 : decode cX2_feed 34 = .ok (.invokevirtual 185, 3) := dk_182 0 185 (dk_at dksX2_feed_1 10 rfl rfl)
theorem dX2_feed_37 : decode cX2_feed 37 = .ok (.aload_n 0, 1) := dk_42 (dk_at dksX2_feed_1 13 rfl rfl)
theorem dX2_feed_38 : decode cX2_feed 38 = .ok (.iload 4, 2) := dk_21 4 (dk_at dksX2_feed_1 14 rfl rfl)
theorem dX2_feed_40 : decode cX2_feed 40 = .ok (.invokevirtual 185, 3) := dk_182 0 185 (dk_at dksX2_feed_1 16 rfl rfl)
theorem dX2_feed_43 : decode cX2_feed 43 = .ok (.aload_n 0, 1) := dk_42 (dk_at dksX2_feed_1 19 rfl rfl)
theorem dX2_feed_44 : decode cX2_feed 44 = .ok (.iload 5, 2) := dk_21 5 (dk_at dksX2_feed_1 20 rfl rfl)
theorem dX2_feed_46 : decode cX2_feed 46 = .ok (.invokevirtual 185, 3) := dk_182 0 185 (dk_at dksX2_feed_2 0 rfl rfl)
theorem dX2_feed_49 : decode cX2_feed 49 = .ok (.aload_n 0, 1) := dk_42 (dk_at dksX2_feed_2 3 rfl rfl)
theorem dX2_feed_50 : decode cX2_feed 50 = .ok (.getfield 13, 3) := dk_180 0 13 (dk_at dksX2_feed_2 4 rfl rfl)
theorem dX2_feed_53 : decode cX2_feed 53 = .ok (.iconst 0, 1) := dk_3 (dk_at dksX2_feed_2 7 rfl rfl)
theorem dX2_feed_54 : decode cX2_feed 54 = .ok (.iaload, 1) := dk_46 (dk_at dksX2_feed_2 8 rfl rfl)
theorem dX2_feed_55 : decode cX2_feed 55 = .ok (.ireturn, 1) := dk_172 (dk_at dksX2_feed_2 9 rfl rfl)
abbrev cX2_four : ByteArray := prog_25_method_12_code
def yX2_four : MethodName := ⟨RX2, "four", "(I)V"⟩
def dkwX2_four_1 : List UInt8 := [180, 0, 13, 3, 92, 46, 4, 96, 79, 132, 2, 248, 167, 255, 224, 177]
abbrev dktX2_four_1 : List UInt8 := dkwX2_four_1 ++ []
def dkwX2_four_0 : List UInt8 := [16, 24, 61, 28, 155, 0, 34, 42, 180, 0, 7, 42, 180, 0, 13, 3, 46, 27, 28, 122, 145, 84, 42]
abbrev dktX2_four_0 : List UInt8 := dkwX2_four_0 ++ dktX2_four_1
theorem dksX2_four_0 : cX2_four.data.toList.drop 0 = dktX2_four_0 := by decide +kernel
theorem dksX2_four_1 : cX2_four.data.toList.drop 23 = dktX2_four_1 := dk_seg dksX2_four_0 23 rfl rfl
theorem dX2_four_0 : decode cX2_four 0 = .ok (.bipush 24, 2) := dk_16 24 (dk_at dksX2_four_0 0 rfl rfl)
theorem dX2_four_2 : decode cX2_four 2 = .ok (.istore_n 2, 1) := dk_61 (dk_at dksX2_four_0 2 rfl rfl)
theorem dX2_four_3 : decode cX2_four 3 = .ok (.iload_n 2, 1) := dk_28 (dk_at dksX2_four_0 3 rfl rfl)
theorem dX2_four_4 : decode cX2_four 4 = .ok (.ifCond .lt 34, 3) := dk_155 0 34 (dk_at dksX2_four_0 4 rfl rfl)
theorem dX2_four_7 : decode cX2_four 7 = .ok (.aload_n 0, 1) := dk_42 (dk_at dksX2_four_0 7 rfl rfl)
theorem dX2_four_8 : decode cX2_four 8 = .ok (.getfield 7, 3) := dk_180 0 7 (dk_at dksX2_four_0 8 rfl rfl)
theorem dX2_four_11 : decode cX2_four 11 = .ok (.aload_n 0, 1) := dk_42 (dk_at dksX2_four_0 11 rfl rfl)
theorem dX2_four_12 : decode cX2_four 12 = .ok (.getfield 13, 3) := dk_180 0 13 (dk_at dksX2_four_0 12 rfl rfl)
theorem dX2_four_15 : decode cX2_four 15 = .ok (.iconst 0, 1) := dk_3 (dk_at dksX2_four_0 15 rfl rfl)
theorem dX2_four_16 : decode cX2_four 16 = .ok (.iaload, 1) := dk_46 (dk_at dksX2_four_0 16 rfl rfl)
theorem dX2_four_17 : decode cX2_four 17 = .ok (.iload_n 1, 1) := dk_27 (dk_at dksX2_four_0 17 rfl rfl)
theorem dX2_four_18 : decode cX2_four 18 = .ok (.iload_n 2, 1) := dk_28 (dk_at dksX2_four_0 18 rfl rfl)
theorem dX2_four_19 : decode cX2_four 19 = .ok (.ishr, 1) := dk_122 (dk_at dksX2_four_0 19 rfl rfl)
theorem dX2_four_20 : decode cX2_four 20 = .ok (.i2b, 1) := dk_145 (dk_at dksX2_four_0 20 rfl rfl)
theorem dX2_four_21 : decode cX2_four 21 = .ok (.bastore, 1) := dk_84 (dk_at dksX2_four_0 21 rfl rfl)
theorem dX2_four_22 : decode cX2_four 22 = .ok (.aload_n 0, 1) := dk_42 (dk_at dksX2_four_0 22 rfl rfl)
theorem dX2_four_23 : decode cX2_four 23 = .ok (.getfield 13, 3) := dk_180 0 13 (dk_at dksX2_four_1 0 rfl rfl)
theorem dX2_four_26 : decode cX2_four 26 = .ok (.iconst 0, 1) := dk_3 (dk_at dksX2_four_1 3 rfl rfl)
theorem dX2_four_27 : decode cX2_four 27 = .ok (.dup2, 1) := dk_92 (dk_at dksX2_four_1 4 rfl rfl)
theorem dX2_four_28 : decode cX2_four 28 = .ok (.iaload, 1) := dk_46 (dk_at dksX2_four_1 5 rfl rfl)
theorem dX2_four_29 : decode cX2_four 29 = .ok (.iconst 1, 1) := dk_4 (dk_at dksX2_four_1 6 rfl rfl)
theorem dX2_four_30 : decode cX2_four 30 = .ok (.iadd, 1) := dk_96 (dk_at dksX2_four_1 7 rfl rfl)
theorem dX2_four_31 : decode cX2_four 31 = .ok (.iastore, 1) := dk_79 (dk_at dksX2_four_1 8 rfl rfl)
theorem dX2_four_32 : decode cX2_four 32 = .ok (.iinc 2 (-8), 3) := dk_132 2 248 (dk_at dksX2_four_1 9 rfl rfl)
theorem dX2_four_35 : decode cX2_four 35 = .ok (.goto (-32), 3) := dk_167 255 224 (dk_at dksX2_four_1 12 rfl rfl)
theorem dX2_four_38 : decode cX2_four 38 = .ok (.return_, 1) := dk_177 (dk_at dksX2_four_1 15 rfl rfl)
abbrev cX2_end : ByteArray := prog_25_method_13_code
def yX2_end : MethodName := ⟨RX2, "end", "(I)I"⟩
def dkwX2_end_1 : List UInt8 := [180, 0, 13, 3, 27, 79, 27, 172]
abbrev dktX2_end_1 : List UInt8 := dkwX2_end_1 ++ []
def dkwX2_end_0 : List UInt8 := [42, 3, 181, 0, 169, 27, 3, 42, 180, 0, 13, 3, 46, 184, 0, 181, 154, 0, 5, 2, 172, 42]
abbrev dktX2_end_0 : List UInt8 := dkwX2_end_0 ++ dktX2_end_1
theorem dksX2_end_0 : cX2_end.data.toList.drop 0 = dktX2_end_0 := by decide +kernel
theorem dksX2_end_1 : cX2_end.data.toList.drop 22 = dktX2_end_1 := dk_seg dksX2_end_0 22 rfl rfl
theorem dX2_end_0 : decode cX2_end 0 = .ok (.aload_n 0, 1) := dk_42 (dk_at dksX2_end_0 0 rfl rfl)
theorem dX2_end_1 : decode cX2_end 1 = .ok (.iconst 0, 1) := dk_3 (dk_at dksX2_end_0 1 rfl rfl)
theorem dX2_end_2 : decode cX2_end 2 = .ok (.putfield 169, 3) := dk_181 0 169 (dk_at dksX2_end_0 2 rfl rfl)
theorem dX2_end_5 : decode cX2_end 5 = .ok (.iload_n 1, 1) := dk_27 (dk_at dksX2_end_0 5 rfl rfl)
theorem dX2_end_6 : decode cX2_end 6 = .ok (.iconst 0, 1) := dk_3 (dk_at dksX2_end_0 6 rfl rfl)
theorem dX2_end_7 : decode cX2_end 7 = .ok (.aload_n 0, 1) := dk_42 (dk_at dksX2_end_0 7 rfl rfl)
theorem dX2_end_8 : decode cX2_end 8 = .ok (.getfield 13, 3) := dk_180 0 13 (dk_at dksX2_end_0 8 rfl rfl)
theorem dX2_end_11 : decode cX2_end 11 = .ok (.iconst 0, 1) := dk_3 (dk_at dksX2_end_0 11 rfl rfl)
theorem dX2_end_12 : decode cX2_end 12 = .ok (.iaload, 1) := dk_46 (dk_at dksX2_end_0 12 rfl rfl)
theorem dX2_end_13 : decode cX2_end 13 = .ok (.invokestatic 181, 3) := dk_184 0 181 (dk_at dksX2_end_0 13 rfl rfl)
theorem dX2_end_16 : decode cX2_end 16 = .ok (.ifCond .ne 5, 3) := dk_154 0 5 (dk_at dksX2_end_0 16 rfl rfl)
theorem dX2_end_19 : decode cX2_end 19 = .ok (.iconst (-1), 1) := dk_2 (dk_at dksX2_end_0 19 rfl rfl)
theorem dX2_end_20 : decode cX2_end 20 = .ok (.ireturn, 1) := dk_172 (dk_at dksX2_end_0 20 rfl rfl)
theorem dX2_end_21 : decode cX2_end 21 = .ok (.aload_n 0, 1) := dk_42 (dk_at dksX2_end_0 21 rfl rfl)
theorem dX2_end_22 : decode cX2_end 22 = .ok (.getfield 13, 3) := dk_180 0 13 (dk_at dksX2_end_1 0 rfl rfl)
theorem dX2_end_25 : decode cX2_end 25 = .ok (.iconst 0, 1) := dk_3 (dk_at dksX2_end_1 3 rfl rfl)
theorem dX2_end_26 : decode cX2_end 26 = .ok (.iload_n 1, 1) := dk_27 (dk_at dksX2_end_1 4 rfl rfl)
theorem dX2_end_27 : decode cX2_end 27 = .ok (.iastore, 1) := dk_79 (dk_at dksX2_end_1 5 rfl rfl)
theorem dX2_end_28 : decode cX2_end 28 = .ok (.iload_n 1, 1) := dk_27 (dk_at dksX2_end_1 6 rfl rfl)
theorem dX2_end_29 : decode cX2_end 29 = .ok (.ireturn, 1) := dk_172 (dk_at dksX2_end_1 7 rfl rfl)
abbrev cX2_in : ByteArray := prog_25_method_3_code
def yX2_in : MethodName := ⟨RX2, "in", "(III)Z"⟩
def dkwX2_in_0 : List UInt8 := [26, 27, 161, 0, 12, 26, 28, 163, 0, 7, 4, 167, 0, 4, 3, 172]
abbrev dktX2_in_0 : List UInt8 := dkwX2_in_0 ++ []
theorem dksX2_in_0 : cX2_in.data.toList.drop 0 = dktX2_in_0 := by decide +kernel
theorem dX2_in_0 : decode cX2_in 0 = .ok (.iload_n 0, 1) := dk_26 (dk_at dksX2_in_0 0 rfl rfl)
theorem dX2_in_1 : decode cX2_in 1 = .ok (.iload_n 1, 1) := dk_27 (dk_at dksX2_in_0 1 rfl rfl)
theorem dX2_in_2 : decode cX2_in 2 = .ok (.if_icmp .lt 12, 3) := dk_161 0 12 (dk_at dksX2_in_0 2 rfl rfl)
theorem dX2_in_5 : decode cX2_in 5 = .ok (.iload_n 0, 1) := dk_26 (dk_at dksX2_in_0 5 rfl rfl)
theorem dX2_in_6 : decode cX2_in 6 = .ok (.iload_n 2, 1) := dk_28 (dk_at dksX2_in_0 6 rfl rfl)
theorem dX2_in_7 : decode cX2_in 7 = .ok (.if_icmp .gt 7, 3) := dk_163 0 7 (dk_at dksX2_in_0 7 rfl rfl)
theorem dX2_in_10 : decode cX2_in 10 = .ok (.iconst 1, 1) := dk_4 (dk_at dksX2_in_0 10 rfl rfl)
theorem dX2_in_11 : decode cX2_in 11 = .ok (.goto 4, 3) := dk_167 0 4 (dk_at dksX2_in_0 11 rfl rfl)
theorem dX2_in_14 : decode cX2_in 14 = .ok (.iconst 0, 1) := dk_3 (dk_at dksX2_in_0 14 rfl rfl)
theorem dX2_in_15 : decode cX2_in 15 = .ok (.ireturn, 1) := dk_172 (dk_at dksX2_in_0 15 rfl rfl)
abbrev cX2_text : ByteArray := prog_25_method_34_code
def yX2_text : MethodName := ⟨RX2, "text", "(II)I"⟩
def dkwX2_text_7 : List UInt8 := [16, 17, 29, 182, 1, 72, 29, 172]
abbrev dktX2_text_7 : List UInt8 := dkwX2_text_7 ++ []
def dkwX2_text_6 : List UInt8 := [27, 4, 160, 0, 17, 42, 42, 180, 0, 29, 16, 121, 29, 182, 1, 72, 167, 0, 14, 42, 42, 180, 0, 32]
abbrev dktX2_text_6 : List UInt8 := dkwX2_text_6 ++ dktX2_text_7
def dkwX2_text_5 : List UInt8 := [167, 0, 4, 3, 96, 79, 27, 154, 0, 17, 42, 42, 180, 0, 26, 16, 122, 29, 182, 1, 72, 167, 0, 33]
abbrev dktX2_text_5 : List UInt8 := dkwX2_text_5 ++ dktX2_text_6
def dkwX2_text_4 : List UInt8 := [180, 0, 23, 27, 46, 167, 0, 4, 28, 62, 42, 180, 0, 23, 27, 92, 46, 28, 2, 160, 0, 7, 4]
abbrev dktX2_text_4 : List UInt8 := dkwX2_text_4 ++ dktX2_text_5
def dkwX2_text_3 : List UInt8 := [154, 0, 6, 16, 254, 172, 42, 27, 182, 1, 69, 154, 0, 5, 2, 172, 28, 2, 160, 0, 12, 42]
abbrev dktX2_text_3 : List UInt8 := dkwX2_text_3 ++ dktX2_text_4
def dkwX2_text_2 : List UInt8 := [160, 0, 16, 42, 180, 0, 23, 27, 46, 5, 160, 0, 18, 167, 0, 12, 42, 27, 28, 182, 1, 66]
abbrev dktX2_text_2 : List UInt8 := dkwX2_text_2 ++ dktX2_text_3
def dkwX2_text_1 : List UInt8 := [180, 0, 17, 3, 3, 79, 42, 180, 0, 20, 3, 2, 79, 27, 3, 5, 184, 0, 181, 153, 0, 30, 28, 2]
abbrev dktX2_text_1 : List UInt8 := dkwX2_text_1 ++ dktX2_text_2
def dkwX2_text_0 : List UInt8 := [42, 3, 181, 0, 169, 42, 42, 180, 0, 13, 3, 46, 181, 0, 192, 42, 180, 0, 13, 3, 3, 79, 42]
abbrev dktX2_text_0 : List UInt8 := dkwX2_text_0 ++ dktX2_text_1
theorem dksX2_text_0 : cX2_text.data.toList.drop 0 = dktX2_text_0 := by decide +kernel
theorem dksX2_text_1 : cX2_text.data.toList.drop 23 = dktX2_text_1 := dk_seg dksX2_text_0 23 rfl rfl
theorem dksX2_text_2 : cX2_text.data.toList.drop 47 = dktX2_text_2 := dk_seg dksX2_text_1 24 rfl rfl
theorem dksX2_text_3 : cX2_text.data.toList.drop 69 = dktX2_text_3 := dk_seg dksX2_text_2 22 rfl rfl
theorem dksX2_text_4 : cX2_text.data.toList.drop 91 = dktX2_text_4 := dk_seg dksX2_text_3 22 rfl rfl
theorem dksX2_text_5 : cX2_text.data.toList.drop 114 = dktX2_text_5 := dk_seg dksX2_text_4 23 rfl rfl
theorem dksX2_text_6 : cX2_text.data.toList.drop 138 = dktX2_text_6 := dk_seg dksX2_text_5 24 rfl rfl
theorem dksX2_text_7 : cX2_text.data.toList.drop 162 = dktX2_text_7 := dk_seg dksX2_text_6 24 rfl rfl
theorem dX2_text_0 : decode cX2_text 0 = .ok (.aload_n 0, 1) := dk_42 (dk_at dksX2_text_0 0 rfl rfl)
theorem dX2_text_1 : decode cX2_text 1 = .ok (.iconst 0, 1) := dk_3 (dk_at dksX2_text_0 1 rfl rfl)
theorem dX2_text_2 : decode cX2_text 2 = .ok (.putfield 169, 3) := dk_181 0 169 (dk_at dksX2_text_0 2 rfl rfl)
theorem dX2_text_5 : decode cX2_text 5 = .ok (.aload_n 0, 1) := dk_42 (dk_at dksX2_text_0 5 rfl rfl)
theorem dX2_text_6 : decode cX2_text 6 = .ok (.aload_n 0, 1) := dk_42 (dk_at dksX2_text_0 6 rfl rfl)
theorem dX2_text_7 : decode cX2_text 7 = .ok (.getfield 13, 3) := dk_180 0 13 (dk_at dksX2_text_0 7 rfl rfl)
theorem dX2_text_10 : decode cX2_text 10 = .ok (.iconst 0, 1) := dk_3 (dk_at dksX2_text_0 10 rfl rfl)
theorem dX2_text_11 : decode cX2_text 11 = .ok (.iaload, 1) := dk_46 (dk_at dksX2_text_0 11 rfl rfl)
theorem dX2_text_12 : decode cX2_text 12 = .ok (.putfield 192, 3) := dk_181 0 192 (dk_at dksX2_text_0 12 rfl rfl)
theorem dX2_text_15 : decode cX2_text 15 = .ok (.aload_n 0, 1) := dk_42 (dk_at dksX2_text_0 15 rfl rfl)
theorem dX2_text_16 : decode cX2_text 16 = .ok (.getfield 13, 3) := dk_180 0 13 (dk_at dksX2_text_0 16 rfl rfl)
theorem dX2_text_19 : decode cX2_text 19 = .ok (.iconst 0, 1) := dk_3 (dk_at dksX2_text_0 19 rfl rfl)
theorem dX2_text_20 : decode cX2_text 20 = .ok (.iconst 0, 1) := dk_3 (dk_at dksX2_text_0 20 rfl rfl)
theorem dX2_text_21 : decode cX2_text 21 = .ok (.iastore, 1) := dk_79 (dk_at dksX2_text_0 21 rfl rfl)
theorem dX2_text_22 : decode cX2_text 22 = .ok (.aload_n 0, 1) := dk_42 (dk_at dksX2_text_0 22 rfl rfl)
theorem dX2_text_23 : decode cX2_text 23 = .ok (.getfield 17, 3) := dk_180 0 17 (dk_at dksX2_text_1 0 rfl rfl)
theorem dX2_text_26 : decode cX2_text 26 = .ok (.iconst 0, 1) := dk_3 (dk_at dksX2_text_1 3 rfl rfl)
theorem dX2_text_27 : decode cX2_text 27 = .ok (.iconst 0, 1) := dk_3 (dk_at dksX2_text_1 4 rfl rfl)
theorem dX2_text_28 : decode cX2_text 28 = .ok (.iastore, 1) := dk_79 (dk_at dksX2_text_1 5 rfl rfl)
theorem dX2_text_29 : decode cX2_text 29 = .ok (.aload_n 0, 1) := dk_42 (dk_at dksX2_text_1 6 rfl rfl)
theorem dX2_text_30 : decode cX2_text 30 = .ok (.getfield 20, 3) := dk_180 0 20 (dk_at dksX2_text_1 7 rfl rfl)
theorem dX2_text_33 : decode cX2_text 33 = .ok (.iconst 0, 1) := dk_3 (dk_at dksX2_text_1 10 rfl rfl)
theorem dX2_text_34 : decode cX2_text 34 = .ok (.iconst (-1), 1) := dk_2 (dk_at dksX2_text_1 11 rfl rfl)
theorem dX2_text_35 : decode cX2_text 35 = .ok (.iastore, 1) := dk_79 (dk_at dksX2_text_1 12 rfl rfl)
theorem dX2_text_36 : decode cX2_text 36 = .ok (.iload_n 1, 1) := dk_27 (dk_at dksX2_text_1 13 rfl rfl)
theorem dX2_text_37 : decode cX2_text 37 = .ok (.iconst 0, 1) := dk_3 (dk_at dksX2_text_1 14 rfl rfl)
theorem dX2_text_38 : decode cX2_text 38 = .ok (.iconst 2, 1) := dk_5 (dk_at dksX2_text_1 15 rfl rfl)
theorem dX2_text_39 : decode cX2_text 39 = .ok (.invokestatic 181, 3) := dk_184 0 181 (dk_at dksX2_text_1 16 rfl rfl)
theorem dX2_text_42 : decode cX2_text 42 = .ok (.ifCond .eq 30, 3) := dk_153 0 30 (dk_at dksX2_text_1 19 rfl rfl)
theorem dX2_text_45 : decode cX2_text 45 = .ok (.iload_n 2, 1) := dk_28 (dk_at dksX2_text_1 22 rfl rfl)
theorem dX2_text_46 : decode cX2_text 46 = .ok (.iconst (-1), 1) := dk_2 (dk_at dksX2_text_1 23 rfl rfl)
theorem dX2_text_47 : decode cX2_text 47 = .ok (.if_icmp .ne 16, 3) := dk_160 0 16 (dk_at dksX2_text_2 0 rfl rfl)
theorem dX2_text_50 : decode cX2_text 50 = .ok (.aload_n 0, 1) := dk_42 (dk_at dksX2_text_2 3 rfl rfl)
theorem dX2_text_51 : decode cX2_text 51 = .ok (.getfield 23, 3) := dk_180 0 23 (dk_at dksX2_text_2 4 rfl rfl)
theorem dX2_text_54 : decode cX2_text 54 = .ok (.iload_n 1, 1) := dk_27 (dk_at dksX2_text_2 7 rfl rfl)
theorem dX2_text_55 : decode cX2_text 55 = .ok (.iaload, 1) := dk_46 (dk_at dksX2_text_2 8 rfl rfl)
theorem dX2_text_56 : decode cX2_text 56 = .ok (.iconst 2, 1) := dk_5 (dk_at dksX2_text_2 9 rfl rfl)
theorem dX2_text_57 : decode cX2_text 57 = .ok (.if_icmp .ne 18, 3) := dk_160 0 18 (dk_at dksX2_text_2 10 rfl rfl)
theorem dX2_text_60 : decode cX2_text 60 = .ok (.goto 12, 3) := dk_167 0 12 (dk_at dksX2_text_2 13 rfl rfl)
theorem dX2_text_63 : decode cX2_text 63 = .ok (.aload_n 0, 1) := dk_42 (dk_at dksX2_text_2 16 rfl rfl)
theorem dX2_text_64 : decode cX2_text 64 = .ok (.iload_n 1, 1) := dk_27 (dk_at dksX2_text_2 17 rfl rfl)
theorem dX2_text_65 : decode cX2_text 65 = .ok (.iload_n 2, 1) := dk_28 (dk_at dksX2_text_2 18 rfl rfl)
theorem dX2_text_66 : decode cX2_text 66 = .ok (.invokevirtual 322, 3) := dk_182 1 66 (dk_at dksX2_text_2 19 rfl rfl)
theorem dX2_text_69 : decode cX2_text 69 = .ok (.ifCond .ne 6, 3) := dk_154 0 6 (dk_at dksX2_text_3 0 rfl rfl)
theorem dX2_text_72 : decode cX2_text 72 = .ok (.bipush (-2), 2) := dk_16 254 (dk_at dksX2_text_3 3 rfl rfl)
theorem dX2_text_74 : decode cX2_text 74 = .ok (.ireturn, 1) := dk_172 (dk_at dksX2_text_3 5 rfl rfl)
theorem dX2_text_75 : decode cX2_text 75 = .ok (.aload_n 0, 1) := dk_42 (dk_at dksX2_text_3 6 rfl rfl)
theorem dX2_text_76 : decode cX2_text 76 = .ok (.iload_n 1, 1) := dk_27 (dk_at dksX2_text_3 7 rfl rfl)
theorem dX2_text_77 : decode cX2_text 77 = .ok (.invokevirtual 325, 3) := dk_182 1 69 (dk_at dksX2_text_3 8 rfl rfl)
theorem dX2_text_80 : decode cX2_text 80 = .ok (.ifCond .ne 5, 3) := dk_154 0 5 (dk_at dksX2_text_3 11 rfl rfl)
theorem dX2_text_83 : decode cX2_text 83 = .ok (.iconst (-1), 1) := dk_2 (dk_at dksX2_text_3 14 rfl rfl)
theorem dX2_text_84 : decode cX2_text 84 = .ok (.ireturn, 1) := dk_172 (dk_at dksX2_text_3 15 rfl rfl)
theorem dX2_text_85 : decode cX2_text 85 = .ok (.iload_n 2, 1) := dk_28 (dk_at dksX2_text_3 16 rfl rfl)
theorem dX2_text_86 : decode cX2_text 86 = .ok (.iconst (-1), 1) := dk_2 (dk_at dksX2_text_3 17 rfl rfl)
theorem dX2_text_87 : decode cX2_text 87 = .ok (.if_icmp .ne 12, 3) := dk_160 0 12 (dk_at dksX2_text_3 18 rfl rfl)
theorem dX2_text_90 : decode cX2_text 90 = .ok (.aload_n 0, 1) := dk_42 (dk_at dksX2_text_3 21 rfl rfl)
theorem dX2_text_91 : decode cX2_text 91 = .ok (.getfield 23, 3) := dk_180 0 23 (dk_at dksX2_text_4 0 rfl rfl)
theorem dX2_text_94 : decode cX2_text 94 = .ok (.iload_n 1, 1) := dk_27 (dk_at dksX2_text_4 3 rfl rfl)
theorem dX2_text_95 : decode cX2_text 95 = .ok (.iaload, 1) := dk_46 (dk_at dksX2_text_4 4 rfl rfl)
theorem dX2_text_96 : decode cX2_text 96 = .ok (.goto 4, 3) := dk_167 0 4 (dk_at dksX2_text_4 5 rfl rfl)
theorem dX2_text_99 : decode cX2_text 99 = .ok (.iload_n 2, 1) := dk_28 (dk_at dksX2_text_4 8 rfl rfl)
theorem dX2_text_100 : decode cX2_text 100 = .ok (.istore_n 3, 1) := dk_62 (dk_at dksX2_text_4 9 rfl rfl)
theorem dX2_text_101 : decode cX2_text 101 = .ok (.aload_n 0, 1) := dk_42 (dk_at dksX2_text_4 10 rfl rfl)
theorem dX2_text_102 : decode cX2_text 102 = .ok (.getfield 23, 3) := dk_180 0 23 (dk_at dksX2_text_4 11 rfl rfl)
theorem dX2_text_105 : decode cX2_text 105 = .ok (.iload_n 1, 1) := dk_27 (dk_at dksX2_text_4 14 rfl rfl)
theorem dX2_text_106 : decode cX2_text 106 = .ok (.dup2, 1) := dk_92 (dk_at dksX2_text_4 15 rfl rfl)
theorem dX2_text_107 : decode cX2_text 107 = .ok (.iaload, 1) := dk_46 (dk_at dksX2_text_4 16 rfl rfl)
theorem dX2_text_108 : decode cX2_text 108 = .ok (.iload_n 2, 1) := dk_28 (dk_at dksX2_text_4 17 rfl rfl)
theorem dX2_text_109 : decode cX2_text 109 = .ok (.iconst (-1), 1) := dk_2 (dk_at dksX2_text_4 18 rfl rfl)
theorem dX2_text_110 : decode cX2_text 110 = .ok (.if_icmp .ne 7, 3) := dk_160 0 7 (dk_at dksX2_text_4 19 rfl rfl)
theorem dX2_text_113 : decode cX2_text 113 = .ok (.iconst 1, 1) := dk_4 (dk_at dksX2_text_4 22 rfl rfl)
theorem dX2_text_114 : decode cX2_text 114 = .ok (.goto 4, 3) := dk_167 0 4 (dk_at dksX2_text_5 0 rfl rfl)
theorem dX2_text_117 : decode cX2_text 117 = .ok (.iconst 0, 1) := dk_3 (dk_at dksX2_text_5 3 rfl rfl)
theorem dX2_text_118 : decode cX2_text 118 = .ok (.iadd, 1) := dk_96 (dk_at dksX2_text_5 4 rfl rfl)
theorem dX2_text_119 : decode cX2_text 119 = .ok (.iastore, 1) := dk_79 (dk_at dksX2_text_5 5 rfl rfl)
theorem dX2_text_120 : decode cX2_text 120 = .ok (.iload_n 1, 1) := dk_27 (dk_at dksX2_text_5 6 rfl rfl)
theorem dX2_text_121 : decode cX2_text 121 = .ok (.ifCond .ne 17, 3) := dk_154 0 17 (dk_at dksX2_text_5 7 rfl rfl)
theorem dX2_text_124 : decode cX2_text 124 = .ok (.aload_n 0, 1) := dk_42 (dk_at dksX2_text_5 10 rfl rfl)
theorem dX2_text_125 : decode cX2_text 125 = .ok (.aload_n 0, 1) := dk_42 (dk_at dksX2_text_5 11 rfl rfl)
theorem dX2_text_126 : decode cX2_text 126 = .ok (.getfield 26, 3) := dk_180 0 26 (dk_at dksX2_text_5 12 rfl rfl)
theorem dX2_text_129 : decode cX2_text 129 = .ok (.bipush 122, 2) := dk_16 122 (dk_at dksX2_text_5 15 rfl rfl)
theorem dX2_text_131 : decode cX2_text 131 = .ok (.iload_n 3, 1) := dk_29 (dk_at dksX2_text_5 17 rfl rfl)
theorem dX2_text_132 : decode cX2_text 132 = .ok (.invokevirtual 328, 3) := dk_182 1 72 (dk_at dksX2_text_5 18 rfl rfl)
theorem dX2_text_135 : decode cX2_text 135 = .ok (.goto 33, 3) := dk_167 0 33 (dk_at dksX2_text_5 21 rfl rfl)
theorem dX2_text_138 : decode cX2_text 138 = .ok (.iload_n 1, 1) := dk_27 (dk_at dksX2_text_6 0 rfl rfl)
theorem dX2_text_139 : decode cX2_text 139 = .ok (.iconst 1, 1) := dk_4 (dk_at dksX2_text_6 1 rfl rfl)
theorem dX2_text_140 : decode cX2_text 140 = .ok (.if_icmp .ne 17, 3) := dk_160 0 17 (dk_at dksX2_text_6 2 rfl rfl)
theorem dX2_text_143 : decode cX2_text 143 = .ok (.aload_n 0, 1) := dk_42 (dk_at dksX2_text_6 5 rfl rfl)
theorem dX2_text_144 : decode cX2_text 144 = .ok (.aload_n 0, 1) := dk_42 (dk_at dksX2_text_6 6 rfl rfl)
theorem dX2_text_145 : decode cX2_text 145 = .ok (.getfield 29, 3) := dk_180 0 29 (dk_at dksX2_text_6 7 rfl rfl)
theorem dX2_text_148 : decode cX2_text 148 = .ok (.bipush 121, 2) := dk_16 121 (dk_at dksX2_text_6 10 rfl rfl)
theorem dX2_text_150 : decode cX2_text 150 = .ok (.iload_n 3, 1) := dk_29 (dk_at dksX2_text_6 12 rfl rfl)
theorem dX2_text_151 : decode cX2_text 151 = .ok (.invokevirtual 328, 3) := dk_182 1 72 (dk_at dksX2_text_6 13 rfl rfl)
theorem dX2_text_154 : decode cX2_text 154 = .ok (.goto 14, 3) := dk_167 0 14 (dk_at dksX2_text_6 16 rfl rfl)
theorem dX2_text_157 : decode cX2_text 157 = .ok (.aload_n 0, 1) := dk_42 (dk_at dksX2_text_6 19 rfl rfl)
theorem dX2_text_158 : decode cX2_text 158 = .ok (.aload_n 0, 1) := dk_42 (dk_at dksX2_text_6 20 rfl rfl)
theorem dX2_text_159 : decode cX2_text 159 = .ok (.getfield 32, 3) := dk_180 0 32 (dk_at dksX2_text_6 21 rfl rfl)
theorem dX2_text_162 : decode cX2_text 162 = .ok (.bipush 17, 2) := dk_16 17 (dk_at dksX2_text_7 0 rfl rfl)
theorem dX2_text_164 : decode cX2_text 164 = .ok (.iload_n 3, 1) := dk_29 (dk_at dksX2_text_7 2 rfl rfl)
theorem dX2_text_165 : decode cX2_text 165 = .ok (.invokevirtual 328, 3) := dk_182 1 72 (dk_at dksX2_text_7 3 rfl rfl)
theorem dX2_text_168 : decode cX2_text 168 = .ok (.iload_n 3, 1) := dk_29 (dk_at dksX2_text_7 6 rfl rfl)
theorem dX2_text_169 : decode cX2_text 169 = .ok (.ireturn, 1) := dk_172 (dk_at dksX2_text_7 7 rfl rfl)
abbrev cX2_is : ByteArray := prog_25_method_10_code
def yX2_is : MethodName := ⟨RX2, "is", "(II)Z"⟩
def dkwX2_is_0 : List UInt8 := [28, 3, 42, 180, 0, 23, 27, 46, 4, 100, 184, 0, 181, 172]
abbrev dktX2_is_0 : List UInt8 := dkwX2_is_0 ++ []
theorem dksX2_is_0 : cX2_is.data.toList.drop 0 = dktX2_is_0 := by decide +kernel
theorem dX2_is_0 : decode cX2_is 0 = .ok (.iload_n 2, 1) := dk_28 (dk_at dksX2_is_0 0 rfl rfl)
theorem dX2_is_1 : decode cX2_is 1 = .ok (.iconst 0, 1) := dk_3 (dk_at dksX2_is_0 1 rfl rfl)
theorem dX2_is_2 : decode cX2_is 2 = .ok (.aload_n 0, 1) := dk_42 (dk_at dksX2_is_0 2 rfl rfl)
theorem dX2_is_3 : decode cX2_is 3 = .ok (.getfield 23, 3) := dk_180 0 23 (dk_at dksX2_is_0 3 rfl rfl)
theorem dX2_is_6 : decode cX2_is 6 = .ok (.iload_n 1, 1) := dk_27 (dk_at dksX2_is_0 6 rfl rfl)
theorem dX2_is_7 : decode cX2_is 7 = .ok (.iaload, 1) := dk_46 (dk_at dksX2_is_0 7 rfl rfl)
theorem dX2_is_8 : decode cX2_is 8 = .ok (.iconst 1, 1) := dk_4 (dk_at dksX2_is_0 8 rfl rfl)
theorem dX2_is_9 : decode cX2_is 9 = .ok (.isub, 1) := dk_100 (dk_at dksX2_is_0 9 rfl rfl)
theorem dX2_is_10 : decode cX2_is 10 = .ok (.invokestatic 181, 3) := dk_184 0 181 (dk_at dksX2_is_0 10 rfl rfl)
theorem dX2_is_13 : decode cX2_is 13 = .ok (.ireturn, 1) := dk_172 (dk_at dksX2_is_0 13 rfl rfl)
abbrev cX2_readText : ByteArray := prog_25_method_32_code
def yX2_readText : MethodName := ⟨RX2, "readText", "(I)Z"⟩
def dkwX2_readText_8 : List UInt8 := [167, 0, 4, 3, 172]
abbrev dktX2_readText_8 : List UInt8 := dkwX2_readText_8 ++ []
def dkwX2_readText_7 : List UInt8 := [158, 0, 10, 42, 180, 0, 218, 167, 0, 4, 2, 79, 42, 180, 0, 17, 3, 46, 154, 0, 7, 4]
abbrev dktX2_readText_7 : List UInt8 := dkwX2_readText_7 ++ dktX2_readText_8
def dkwX2_readText_6 : List UInt8 := [4, 79, 42, 180, 0, 20, 3, 28, 154, 0, 10, 42, 180, 0, 212, 167, 0, 18, 42, 180, 0, 215]
abbrev dktX2_readText_6 : List UInt8 := dkwX2_readText_6 ++ dktX2_readText_7
def dkwX2_readText_5 : List UInt8 := [7, 42, 180, 0, 199, 182, 0, 225, 42, 180, 0, 17, 3, 28, 153, 0, 10, 42, 180, 0, 215, 167, 0, 4]
abbrev dktX2_readText_5 : List UInt8 := dkwX2_readText_5 ++ dktX2_readText_6
def dkwX2_readText_4 : List UInt8 := [154, 0, 32, 42, 180, 0, 215, 154, 0, 25, 42, 180, 0, 240, 42, 180, 0, 35, 3, 46, 161, 0, 12, 42]
abbrev dktX2_readText_4 : List UInt8 := dkwX2_readText_4 ++ dktX2_readText_5
def dkwX2_readText_3 : List UInt8 := [181, 0, 189, 42, 3, 181, 0, 215, 42, 182, 0, 233, 42, 27, 182, 1, 63, 61, 28, 153, 0, 36, 27]
abbrev dktX2_readText_3 : List UInt8 := dkwX2_readText_3 ++ dktX2_readText_4
def dkwX2_readText_2 : List UInt8 := [153, 0, 7, 5, 167, 0, 4, 3, 79, 132, 2, 1, 167, 255, 200, 42, 2, 181, 0, 240, 42, 3]
abbrev dktX2_readText_2 : List UInt8 := dkwX2_readText_2 ++ dktX2_readText_3
def dkwX2_readText_1 : List UInt8 := [154, 0, 7, 6, 167, 0, 28, 28, 4, 160, 0, 8, 16, 20, 167, 0, 18, 28, 8, 16, 10, 184, 0, 181]
abbrev dktX2_readText_1 : List UInt8 := dkwX2_readText_1 ++ dktX2_readText_2
def dkwX2_readText_0 : List UInt8 := [3, 61, 28, 16, 122, 162, 0, 56, 42, 180, 0, 35, 28, 27, 153, 0, 7, 3, 167, 0, 36, 28]
abbrev dktX2_readText_0 : List UInt8 := dkwX2_readText_0 ++ dktX2_readText_1
theorem dksX2_readText_0 : cX2_readText.data.toList.drop 0 = dktX2_readText_0 := by decide +kernel
theorem dksX2_readText_1 : cX2_readText.data.toList.drop 22 = dktX2_readText_1 := dk_seg dksX2_readText_0 22 rfl rfl
theorem dksX2_readText_2 : cX2_readText.data.toList.drop 46 = dktX2_readText_2 := dk_seg dksX2_readText_1 24 rfl rfl
theorem dksX2_readText_3 : cX2_readText.data.toList.drop 68 = dktX2_readText_3 := dk_seg dksX2_readText_2 22 rfl rfl
theorem dksX2_readText_4 : cX2_readText.data.toList.drop 91 = dktX2_readText_4 := dk_seg dksX2_readText_3 23 rfl rfl
theorem dksX2_readText_5 : cX2_readText.data.toList.drop 115 = dktX2_readText_5 := dk_seg dksX2_readText_4 24 rfl rfl
theorem dksX2_readText_6 : cX2_readText.data.toList.drop 139 = dktX2_readText_6 := dk_seg dksX2_readText_5 24 rfl rfl
theorem dksX2_readText_7 : cX2_readText.data.toList.drop 161 = dktX2_readText_7 := dk_seg dksX2_readText_6 22 rfl rfl
theorem dksX2_readText_8 : cX2_readText.data.toList.drop 183 = dktX2_readText_8 := dk_seg dksX2_readText_7 22 rfl rfl
theorem dX2_readText_0 : decode cX2_readText 0 = .ok (.iconst 0, 1) := dk_3 (dk_at dksX2_readText_0 0 rfl rfl)
theorem dX2_readText_1 : decode cX2_readText 1 = .ok (.istore_n 2, 1) := dk_61 (dk_at dksX2_readText_0 1 rfl rfl)
theorem dX2_readText_2 : decode cX2_readText 2 = .ok (.iload_n 2, 1) := dk_28 (dk_at dksX2_readText_0 2 rfl rfl)
theorem dX2_readText_3 : decode cX2_readText 3 = .ok (.bipush 122, 2) := dk_16 122 (dk_at dksX2_readText_0 3 rfl rfl)
theorem dX2_readText_5 : decode cX2_readText 5 = .ok (.if_icmp .ge 56, 3) := dk_162 0 56 (dk_at dksX2_readText_0 5 rfl rfl)
theorem dX2_readText_8 : decode cX2_readText 8 = .ok (.aload_n 0, 1) := dk_42 (dk_at dksX2_readText_0 8 rfl rfl)
theorem dX2_readText_9 : decode cX2_readText 9 = .ok (.getfield 35, 3) := dk_180 0 35 (dk_at dksX2_readText_0 9 rfl rfl)
theorem dX2_readText_12 : decode cX2_readText 12 = .ok (.iload_n 2, 1) := dk_28 (dk_at dksX2_readText_0 12 rfl rfl)
theorem dX2_readText_13 : decode cX2_readText 13 = .ok (.iload_n 1, 1) := dk_27 (dk_at dksX2_readText_0 13 rfl rfl)
theorem dX2_readText_14 : decode cX2_readText 14 = .ok (.ifCond .eq 7, 3) := dk_153 0 7 (dk_at dksX2_readText_0 14 rfl rfl)
theorem dX2_readText_17 : decode cX2_readText 17 = .ok (.iconst 0, 1) := dk_3 (dk_at dksX2_readText_0 17 rfl rfl)
theorem dX2_readText_18 : decode cX2_readText 18 = .ok (.goto 36, 3) := dk_167 0 36 (dk_at dksX2_readText_0 18 rfl rfl)
theorem dX2_readText_21 : decode cX2_readText 21 = .ok (.iload_n 2, 1) := dk_28 (dk_at dksX2_readText_0 21 rfl rfl)
theorem dX2_readText_22 : decode cX2_readText 22 = .ok (.ifCond .ne 7, 3) := dk_154 0 7 (dk_at dksX2_readText_1 0 rfl rfl)
theorem dX2_readText_25 : decode cX2_readText 25 = .ok (.iconst 3, 1) := dk_6 (dk_at dksX2_readText_1 3 rfl rfl)
theorem dX2_readText_26 : decode cX2_readText 26 = .ok (.goto 28, 3) := dk_167 0 28 (dk_at dksX2_readText_1 4 rfl rfl)
theorem dX2_readText_29 : decode cX2_readText 29 = .ok (.iload_n 2, 1) := dk_28 (dk_at dksX2_readText_1 7 rfl rfl)
theorem dX2_readText_30 : decode cX2_readText 30 = .ok (.iconst 1, 1) := dk_4 (dk_at dksX2_readText_1 8 rfl rfl)
theorem dX2_readText_31 : decode cX2_readText 31 = .ok (.if_icmp .ne 8, 3) := dk_160 0 8 (dk_at dksX2_readText_1 9 rfl rfl)
theorem dX2_readText_34 : decode cX2_readText 34 = .ok (.bipush 20, 2) := dk_16 20 (dk_at dksX2_readText_1 12 rfl rfl)
theorem dX2_readText_36 : decode cX2_readText 36 = .ok (.goto 18, 3) := dk_167 0 18 (dk_at dksX2_readText_1 14 rfl rfl)
theorem dX2_readText_39 : decode cX2_readText 39 = .ok (.iload_n 2, 1) := dk_28 (dk_at dksX2_readText_1 17 rfl rfl)
theorem dX2_readText_40 : decode cX2_readText 40 = .ok (.iconst 5, 1) := dk_8 (dk_at dksX2_readText_1 18 rfl rfl)
theorem dX2_readText_41 : decode cX2_readText 41 = .ok (.bipush 10, 2) := dk_16 10 (dk_at dksX2_readText_1 19 rfl rfl)
theorem dX2_readText_43 : decode cX2_readText 43 = .ok (.invokestatic 181, 3) := dk_184 0 181 (dk_at dksX2_readText_1 21 rfl rfl)
theorem dX2_readText_46 : decode cX2_readText 46 = .ok (.ifCond .eq 7, 3) := dk_153 0 7 (dk_at dksX2_readText_2 0 rfl rfl)
theorem dX2_readText_49 : decode cX2_readText 49 = .ok (.iconst 2, 1) := dk_5 (dk_at dksX2_readText_2 3 rfl rfl)
theorem dX2_readText_50 : decode cX2_readText 50 = .ok (.goto 4, 3) := dk_167 0 4 (dk_at dksX2_readText_2 4 rfl rfl)
theorem dX2_readText_53 : decode cX2_readText 53 = .ok (.iconst 0, 1) := dk_3 (dk_at dksX2_readText_2 7 rfl rfl)
theorem dX2_readText_54 : decode cX2_readText 54 = .ok (.iastore, 1) := dk_79 (dk_at dksX2_readText_2 8 rfl rfl)
theorem dX2_readText_55 : decode cX2_readText 55 = .ok (.iinc 2 1, 3) := dk_132 2 1 (dk_at dksX2_readText_2 9 rfl rfl)
theorem dX2_readText_58 : decode cX2_readText 58 = .ok (.goto (-56), 3) := dk_167 255 200 (dk_at dksX2_readText_2 12 rfl rfl)
theorem dX2_readText_61 : decode cX2_readText 61 = .ok (.aload_n 0, 1) := dk_42 (dk_at dksX2_readText_2 15 rfl rfl)
theorem dX2_readText_62 : decode cX2_readText 62 = .ok (.iconst (-1), 1) := dk_2 (dk_at dksX2_readText_2 16 rfl rfl)
theorem dX2_readText_63 : decode cX2_readText 63 = .ok (.putfield 240, 3) := dk_181 0 240 (dk_at dksX2_readText_2 17 rfl rfl)
theorem dX2_readText_66 : decode cX2_readText 66 = .ok (.aload_n 0, 1) := dk_42 (dk_at dksX2_readText_2 20 rfl rfl)
theorem dX2_readText_67 : decode cX2_readText 67 = .ok (.iconst 0, 1) := dk_3 (dk_at dksX2_readText_2 21 rfl rfl)
theorem dX2_readText_68 : decode cX2_readText 68 = .ok (.putfield 189, 3) := dk_181 0 189 (dk_at dksX2_readText_3 0 rfl rfl)
theorem dX2_readText_71 : decode cX2_readText 71 = .ok (.aload_n 0, 1) := dk_42 (dk_at dksX2_readText_3 3 rfl rfl)
theorem dX2_readText_72 : decode cX2_readText 72 = .ok (.iconst 0, 1) := dk_3 (dk_at dksX2_readText_3 4 rfl rfl)
theorem dX2_readText_73 : decode cX2_readText 73 = .ok (.putfield 215, 3) := dk_181 0 215 (dk_at dksX2_readText_3 5 rfl rfl)
theorem dX2_readText_76 : decode cX2_readText 76 = .ok (.aload_n 0, 1) := dk_42 (dk_at dksX2_readText_3 8 rfl rfl)
theorem dX2_readText_77 : decode cX2_readText 77 = .ok (.invokevirtual 233, 3) := dk_182 0 233 (dk_at dksX2_readText_3 9 rfl rfl)
theorem dX2_readText_80 : decode cX2_readText 80 = .ok (.aload_n 0, 1) := dk_42 (dk_at dksX2_readText_3 12 rfl rfl)
theorem dX2_readText_81 : decode cX2_readText 81 = .ok (.iload_n 1, 1) := dk_27 (dk_at dksX2_readText_3 13 rfl rfl)
theorem dX2_readText_82 : decode cX2_readText 82 = .ok (.invokevirtual 319, 3) := dk_182 1 63 (dk_at dksX2_readText_3 14 rfl rfl)
theorem dX2_readText_85 : decode cX2_readText 85 = .ok (.istore_n 2, 1) := dk_61 (dk_at dksX2_readText_3 17 rfl rfl)
theorem dX2_readText_86 : decode cX2_readText 86 = .ok (.iload_n 2, 1) := dk_28 (dk_at dksX2_readText_3 18 rfl rfl)
theorem dX2_readText_87 : decode cX2_readText 87 = .ok (.ifCond .eq 36, 3) := dk_153 0 36 (dk_at dksX2_readText_3 19 rfl rfl)
theorem dX2_readText_90 : decode cX2_readText 90 = .ok (.iload_n 1, 1) := dk_27 (dk_at dksX2_readText_3 22 rfl rfl)
theorem dX2_readText_91 : decode cX2_readText 91 = .ok (.ifCond .ne 32, 3) := dk_154 0 32 (dk_at dksX2_readText_4 0 rfl rfl)
theorem dX2_readText_94 : decode cX2_readText 94 = .ok (.aload_n 0, 1) := dk_42 (dk_at dksX2_readText_4 3 rfl rfl)
theorem dX2_readText_95 : decode cX2_readText 95 = .ok (.getfield 215, 3) := dk_180 0 215 (dk_at dksX2_readText_4 4 rfl rfl)
theorem dX2_readText_98 : decode cX2_readText 98 = .ok (.ifCond .ne 25, 3) := dk_154 0 25 (dk_at dksX2_readText_4 7 rfl rfl)
theorem dX2_readText_101 : decode cX2_readText 101 = .ok (.aload_n 0, 1) := dk_42 (dk_at dksX2_readText_4 10 rfl rfl)
theorem dX2_readText_102 : decode cX2_readText 102 = .ok (.getfield 240, 3) := dk_180 0 240 (dk_at dksX2_readText_4 11 rfl rfl)
theorem dX2_readText_105 : decode cX2_readText 105 = .ok (.aload_n 0, 1) := dk_42 (dk_at dksX2_readText_4 14 rfl rfl)
theorem dX2_readText_106 : decode cX2_readText 106 = .ok (.getfield 35, 3) := dk_180 0 35 (dk_at dksX2_readText_4 15 rfl rfl)
theorem dX2_readText_109 : decode cX2_readText 109 = .ok (.iconst 0, 1) := dk_3 (dk_at dksX2_readText_4 18 rfl rfl)
theorem dX2_readText_110 : decode cX2_readText 110 = .ok (.iaload, 1) := dk_46 (dk_at dksX2_readText_4 19 rfl rfl)
theorem dX2_readText_111 : decode cX2_readText 111 = .ok (.if_icmp .lt 12, 3) := dk_161 0 12 (dk_at dksX2_readText_4 20 rfl rfl)
theorem dX2_readText_114 : decode cX2_readText 114 = .ok (.aload_n 0, 1) := dk_42 (dk_at dksX2_readText_4 23 rfl rfl)
theorem dX2_readText_115 : decode cX2_readText 115 = .ok (.iconst 4, 1) := dk_7 (dk_at dksX2_readText_5 0 rfl rfl)
theorem dX2_readText_116 : decode cX2_readText 116 = .ok (.aload_n 0, 1) := dk_42 (dk_at dksX2_readText_5 1 rfl rfl)
theorem dX2_readText_117 : decode cX2_readText 117 = .ok (.getfield 199, 3) := dk_180 0 199 (dk_at dksX2_readText_5 2 rfl rfl)
theorem dX2_readText_120 : decode cX2_readText 120 = .ok (.invokevirtual 225, 3) := dk_182 0 225 (dk_at dksX2_readText_5 5 rfl rfl)
theorem dX2_readText_123 : decode cX2_readText 123 = .ok (.aload_n 0, 1) := dk_42 (dk_at dksX2_readText_5 8 rfl rfl)
theorem dX2_readText_124 : decode cX2_readText 124 = .ok (.getfield 17, 3) := dk_180 0 17 (dk_at dksX2_readText_5 9 rfl rfl)
theorem dX2_readText_127 : decode cX2_readText 127 = .ok (.iconst 0, 1) := dk_3 (dk_at dksX2_readText_5 12 rfl rfl)
theorem dX2_readText_128 : decode cX2_readText 128 = .ok (.iload_n 2, 1) := dk_28 (dk_at dksX2_readText_5 13 rfl rfl)
theorem dX2_readText_129 : decode cX2_readText 129 = .ok (.ifCond .eq 10, 3) := dk_153 0 10 (dk_at dksX2_readText_5 14 rfl rfl)
theorem dX2_readText_132 : decode cX2_readText 132 = .ok (.aload_n 0, 1) := dk_42 (dk_at dksX2_readText_5 17 rfl rfl)
theorem dX2_readText_133 : decode cX2_readText 133 = .ok (.getfield 215, 3) := dk_180 0 215 (dk_at dksX2_readText_5 18 rfl rfl)
theorem dX2_readText_136 : decode cX2_readText 136 = .ok (.goto 4, 3) := dk_167 0 4 (dk_at dksX2_readText_5 21 rfl rfl)
theorem dX2_readText_139 : decode cX2_readText 139 = .ok (.iconst 1, 1) := dk_4 (dk_at dksX2_readText_6 0 rfl rfl)
theorem dX2_readText_140 : decode cX2_readText 140 = .ok (.iastore, 1) := dk_79 (dk_at dksX2_readText_6 1 rfl rfl)
theorem dX2_readText_141 : decode cX2_readText 141 = .ok (.aload_n 0, 1) := dk_42 (dk_at dksX2_readText_6 2 rfl rfl)
theorem dX2_readText_142 : decode cX2_readText 142 = .ok (.getfield 20, 3) := dk_180 0 20 (dk_at dksX2_readText_6 3 rfl rfl)
theorem dX2_readText_145 : decode cX2_readText 145 = .ok (.iconst 0, 1) := dk_3 (dk_at dksX2_readText_6 6 rfl rfl)
theorem dX2_readText_146 : decode cX2_readText 146 = .ok (.iload_n 2, 1) := dk_28 (dk_at dksX2_readText_6 7 rfl rfl)
theorem dX2_readText_147 : decode cX2_readText 147 = .ok (.ifCond .ne 10, 3) := dk_154 0 10 (dk_at dksX2_readText_6 8 rfl rfl)
theorem dX2_readText_150 : decode cX2_readText 150 = .ok (.aload_n 0, 1) := dk_42 (dk_at dksX2_readText_6 11 rfl rfl)
theorem dX2_readText_151 : decode cX2_readText 151 = .ok (.getfield 212, 3) := dk_180 0 212 (dk_at dksX2_readText_6 12 rfl rfl)
theorem dX2_readText_154 : decode cX2_readText 154 = .ok (.goto 18, 3) := dk_167 0 18 (dk_at dksX2_readText_6 15 rfl rfl)
theorem dX2_readText_157 : decode cX2_readText 157 = .ok (.aload_n 0, 1) := dk_42 (dk_at dksX2_readText_6 18 rfl rfl)
theorem dX2_readText_158 : decode cX2_readText 158 = .ok (.getfield 215, 3) := dk_180 0 215 (dk_at dksX2_readText_6 19 rfl rfl)
theorem dX2_readText_161 : decode cX2_readText 161 = .ok (.ifCond .le 10, 3) := dk_158 0 10 (dk_at dksX2_readText_7 0 rfl rfl)
theorem dX2_readText_164 : decode cX2_readText 164 = .ok (.aload_n 0, 1) := dk_42 (dk_at dksX2_readText_7 3 rfl rfl)
theorem dX2_readText_165 : decode cX2_readText 165 = .ok (.getfield 218, 3) := dk_180 0 218 (dk_at dksX2_readText_7 4 rfl rfl)
theorem dX2_readText_168 : decode cX2_readText 168 = .ok (.goto 4, 3) := dk_167 0 4 (dk_at dksX2_readText_7 7 rfl rfl)
theorem dX2_readText_171 : decode cX2_readText 171 = .ok (.iconst (-1), 1) := dk_2 (dk_at dksX2_readText_7 10 rfl rfl)
theorem dX2_readText_172 : decode cX2_readText 172 = .ok (.iastore, 1) := dk_79 (dk_at dksX2_readText_7 11 rfl rfl)
theorem dX2_readText_173 : decode cX2_readText 173 = .ok (.aload_n 0, 1) := dk_42 (dk_at dksX2_readText_7 12 rfl rfl)
theorem dX2_readText_174 : decode cX2_readText 174 = .ok (.getfield 17, 3) := dk_180 0 17 (dk_at dksX2_readText_7 13 rfl rfl)
theorem dX2_readText_177 : decode cX2_readText 177 = .ok (.iconst 0, 1) := dk_3 (dk_at dksX2_readText_7 16 rfl rfl)
theorem dX2_readText_178 : decode cX2_readText 178 = .ok (.iaload, 1) := dk_46 (dk_at dksX2_readText_7 17 rfl rfl)
theorem dX2_readText_179 : decode cX2_readText 179 = .ok (.ifCond .ne 7, 3) := dk_154 0 7 (dk_at dksX2_readText_7 18 rfl rfl)
theorem dX2_readText_182 : decode cX2_readText 182 = .ok (.iconst 1, 1) := dk_4 (dk_at dksX2_readText_7 21 rfl rfl)
theorem dX2_readText_183 : decode cX2_readText 183 = .ok (.goto 4, 3) := dk_167 0 4 (dk_at dksX2_readText_8 0 rfl rfl)
theorem dX2_readText_186 : decode cX2_readText 186 = .ok (.iconst 0, 1) := dk_3 (dk_at dksX2_readText_8 3 rfl rfl)
theorem dX2_readText_187 : decode cX2_readText 187 = .ok (.ireturn, 1) := dk_172 (dk_at dksX2_readText_8 4 rfl rfl)
abbrev cX2_token : ByteArray := prog_25_method_15_code
def yX2_token : MethodName := ⟨RX2, "token", "()V"⟩
def dkwX2_token_11 : List UInt8 := [42, 27, 16, 59, 160, 0, 7, 7, 167, 0, 4, 4, 181, 0, 206, 177]
abbrev dktX2_token_11 : List UInt8 := dkwX2_token_11 ++ []
def dkwX2_token_10 : List UInt8 := [164, 0, 7, 4, 167, 0, 4, 6, 181, 0, 206, 167, 0, 28, 42, 89, 180, 0, 189, 4, 96, 181, 0, 189]
abbrev dktX2_token_10 : List UInt8 := dkwX2_token_10 ++ dktX2_token_11
def dkwX2_token_9 : List UInt8 := [181, 0, 209, 42, 89, 180, 0, 189, 4, 96, 181, 0, 189, 132, 2, 1, 167, 255, 198, 42, 28, 5]
abbrev dktX2_token_9 : List UInt8 := dkwX2_token_9 ++ dktX2_token_10
def dkwX2_token_8 : List UInt8 := [16, 10, 42, 180, 0, 209, 104, 42, 182, 0, 195, 96, 16, 48, 100, 167, 0, 7, 42, 180, 0, 209]
abbrev dktX2_token_8 : List UInt8 := dkwX2_token_8 ++ dktX2_token_9
def dkwX2_token_7 : List UInt8 := [181, 0, 209, 42, 182, 0, 195, 16, 48, 16, 57, 184, 0, 181, 153, 0, 50, 42, 28, 5, 162, 0, 21]
abbrev dktX2_token_7 : List UInt8 := dkwX2_token_7 ++ dktX2_token_8
def dkwX2_token_6 : List UInt8 := [181, 0, 202, 42, 5, 181, 0, 206, 167, 0, 122, 27, 16, 48, 16, 57, 184, 0, 181, 153, 0, 86, 42, 3]
abbrev dktX2_token_6 : List UInt8 := dkwX2_token_6 ++ dktX2_token_7
def dkwX2_token_5 : List UInt8 := [181, 0, 189, 132, 2, 1, 167, 255, 212, 42, 28, 16, 8, 164, 0, 7, 9, 167, 0, 7, 42, 180, 0, 202]
abbrev dktX2_token_5 : List UInt8 := dkwX2_token_5 ++ dktX2_token_6
def dkwX2_token_4 : List UInt8 := [180, 0, 202, 16, 8, 121, 42, 182, 0, 195, 133, 129, 181, 0, 202, 42, 89, 180, 0, 189, 4, 96]
abbrev dktX2_token_4 : List UInt8 := dkwX2_token_4 ++ dktX2_token_5
def dkwX2_token_3 : List UInt8 := [184, 0, 181, 153, 0, 76, 42, 182, 0, 195, 16, 97, 16, 122, 184, 0, 181, 153, 0, 36, 42, 42]
abbrev dktX2_token_3 : List UInt8 := dkwX2_token_3 ++ dktX2_token_4
def dkwX2_token_2 : List UInt8 := [181, 0, 202, 3, 61, 27, 156, 0, 11, 42, 3, 181, 0, 206, 167, 0, 206, 27, 16, 97, 16, 122]
abbrev dktX2_token_2 : List UInt8 := dkwX2_token_2 ++ dktX2_token_3
def dkwX2_token_1 : List UInt8 := [96, 181, 0, 189, 167, 255, 228, 42, 42, 180, 0, 189, 181, 0, 199, 42, 182, 0, 195, 60, 42, 9]
abbrev dktX2_token_1 : List UInt8 := dkwX2_token_1 ++ dktX2_token_2
def dkwX2_token_0 : List UInt8 := [42, 182, 0, 195, 16, 10, 159, 0, 12, 42, 182, 0, 195, 16, 32, 160, 0, 16, 42, 89, 180, 0, 189, 4]
abbrev dktX2_token_0 : List UInt8 := dkwX2_token_0 ++ dktX2_token_1
theorem dksX2_token_0 : cX2_token.data.toList.drop 0 = dktX2_token_0 := by decide +kernel
theorem dksX2_token_1 : cX2_token.data.toList.drop 24 = dktX2_token_1 := dk_seg dksX2_token_0 24 rfl rfl
theorem dksX2_token_2 : cX2_token.data.toList.drop 46 = dktX2_token_2 := dk_seg dksX2_token_1 22 rfl rfl
theorem dksX2_token_3 : cX2_token.data.toList.drop 68 = dktX2_token_3 := dk_seg dksX2_token_2 22 rfl rfl
theorem dksX2_token_4 : cX2_token.data.toList.drop 90 = dktX2_token_4 := dk_seg dksX2_token_3 22 rfl rfl
theorem dksX2_token_5 : cX2_token.data.toList.drop 112 = dktX2_token_5 := dk_seg dksX2_token_4 22 rfl rfl
theorem dksX2_token_6 : cX2_token.data.toList.drop 136 = dktX2_token_6 := dk_seg dksX2_token_5 24 rfl rfl
theorem dksX2_token_7 : cX2_token.data.toList.drop 160 = dktX2_token_7 := dk_seg dksX2_token_6 24 rfl rfl
theorem dksX2_token_8 : cX2_token.data.toList.drop 183 = dktX2_token_8 := dk_seg dksX2_token_7 23 rfl rfl
theorem dksX2_token_9 : cX2_token.data.toList.drop 205 = dktX2_token_9 := dk_seg dksX2_token_8 22 rfl rfl
theorem dksX2_token_10 : cX2_token.data.toList.drop 227 = dktX2_token_10 := dk_seg dksX2_token_9 22 rfl rfl
theorem dksX2_token_11 : cX2_token.data.toList.drop 251 = dktX2_token_11 := dk_seg dksX2_token_10 24 rfl rfl
theorem dX2_token_0 : decode cX2_token 0 = .ok (.aload_n 0, 1) := dk_42 (dk_at dksX2_token_0 0 rfl rfl)
theorem dX2_token_1 : decode cX2_token 1 = .ok (.invokevirtual 195, 3) := dk_182 0 195 (dk_at dksX2_token_0 1 rfl rfl)
theorem dX2_token_4 : decode cX2_token 4 = .ok (.bipush 10, 2) := dk_16 10 (dk_at dksX2_token_0 4 rfl rfl)
theorem dX2_token_6 : decode cX2_token 6 = .ok (.if_icmp .eq 12, 3) := dk_159 0 12 (dk_at dksX2_token_0 6 rfl rfl)
theorem dX2_token_9 : decode cX2_token 9 = .ok (.aload_n 0, 1) := dk_42 (dk_at dksX2_token_0 9 rfl rfl)
theorem dX2_token_10 : decode cX2_token 10 = .ok (.invokevirtual 195, 3) := dk_182 0 195 (dk_at dksX2_token_0 10 rfl rfl)
theorem dX2_token_13 : decode cX2_token 13 = .ok (.bipush 32, 2) := dk_16 32 (dk_at dksX2_token_0 13 rfl rfl)
theorem dX2_token_15 : decode cX2_token 15 = .ok (.if_icmp .ne 16, 3) := dk_160 0 16 (dk_at dksX2_token_0 15 rfl rfl)
theorem dX2_token_18 : decode cX2_token 18 = .ok (.aload_n 0, 1) := dk_42 (dk_at dksX2_token_0 18 rfl rfl)
theorem dX2_token_19 : decode cX2_token 19 = .ok (.dup, 1) := dk_89 (dk_at dksX2_token_0 19 rfl rfl)
theorem dX2_token_20 : decode cX2_token 20 = .ok (.getfield 189, 3) := dk_180 0 189 (dk_at dksX2_token_0 20 rfl rfl)
theorem dX2_token_23 : decode cX2_token 23 = .ok (.iconst 1, 1) := dk_4 (dk_at dksX2_token_0 23 rfl rfl)
theorem dX2_token_24 : decode cX2_token 24 = .ok (.iadd, 1) := dk_96 (dk_at dksX2_token_1 0 rfl rfl)
theorem dX2_token_25 : decode cX2_token 25 = .ok (.putfield 189, 3) := dk_181 0 189 (dk_at dksX2_token_1 1 rfl rfl)
theorem dX2_token_28 : decode cX2_token 28 = .ok (.goto (-28), 3) := dk_167 255 228 (dk_at dksX2_token_1 4 rfl rfl)
theorem dX2_token_31 : decode cX2_token 31 = .ok (.aload_n 0, 1) := dk_42 (dk_at dksX2_token_1 7 rfl rfl)
theorem dX2_token_32 : decode cX2_token 32 = .ok (.aload_n 0, 1) := dk_42 (dk_at dksX2_token_1 8 rfl rfl)
theorem dX2_token_33 : decode cX2_token 33 = .ok (.getfield 189, 3) := dk_180 0 189 (dk_at dksX2_token_1 9 rfl rfl)
theorem dX2_token_36 : decode cX2_token 36 = .ok (.putfield 199, 3) := dk_181 0 199 (dk_at dksX2_token_1 12 rfl rfl)
theorem dX2_token_39 : decode cX2_token 39 = .ok (.aload_n 0, 1) := dk_42 (dk_at dksX2_token_1 15 rfl rfl)
theorem dX2_token_40 : decode cX2_token 40 = .ok (.invokevirtual 195, 3) := dk_182 0 195 (dk_at dksX2_token_1 16 rfl rfl)
theorem dX2_token_43 : decode cX2_token 43 = .ok (.istore_n 1, 1) := dk_60 (dk_at dksX2_token_1 19 rfl rfl)
theorem dX2_token_44 : decode cX2_token 44 = .ok (.aload_n 0, 1) := dk_42 (dk_at dksX2_token_1 20 rfl rfl)
theorem dX2_token_45 : decode cX2_token 45 = .ok (.lconst 0, 1) := dk_9 (dk_at dksX2_token_1 21 rfl rfl)
theorem dX2_token_46 : decode cX2_token 46 = .ok (.putfield 202, 3) := dk_181 0 202 (dk_at dksX2_token_2 0 rfl rfl)
theorem dX2_token_49 : decode cX2_token 49 = .ok (.iconst 0, 1) := dk_3 (dk_at dksX2_token_2 3 rfl rfl)
theorem dX2_token_50 : decode cX2_token 50 = .ok (.istore_n 2, 1) := dk_61 (dk_at dksX2_token_2 4 rfl rfl)
theorem dX2_token_51 : decode cX2_token 51 = .ok (.iload_n 1, 1) := dk_27 (dk_at dksX2_token_2 5 rfl rfl)
theorem dX2_token_52 : decode cX2_token 52 = .ok (.ifCond .ge 11, 3) := dk_156 0 11 (dk_at dksX2_token_2 6 rfl rfl)
theorem dX2_token_55 : decode cX2_token 55 = .ok (.aload_n 0, 1) := dk_42 (dk_at dksX2_token_2 9 rfl rfl)
theorem dX2_token_56 : decode cX2_token 56 = .ok (.iconst 0, 1) := dk_3 (dk_at dksX2_token_2 10 rfl rfl)
theorem dX2_token_57 : decode cX2_token 57 = .ok (.putfield 206, 3) := dk_181 0 206 (dk_at dksX2_token_2 11 rfl rfl)
theorem dX2_token_60 : decode cX2_token 60 = .ok (.goto 206, 3) := dk_167 0 206 (dk_at dksX2_token_2 14 rfl rfl)
theorem dX2_token_63 : decode cX2_token 63 = .ok (.iload_n 1, 1) := dk_27 (dk_at dksX2_token_2 17 rfl rfl)
theorem dX2_token_64 : decode cX2_token 64 = .ok (.bipush 97, 2) := dk_16 97 (dk_at dksX2_token_2 18 rfl rfl)
theorem dX2_token_66 : decode cX2_token 66 = .ok (.bipush 122, 2) := dk_16 122 (dk_at dksX2_token_2 20 rfl rfl)
theorem dX2_token_68 : decode cX2_token 68 = .ok (.invokestatic 181, 3) := dk_184 0 181 (dk_at dksX2_token_3 0 rfl rfl)
theorem dX2_token_71 : decode cX2_token 71 = .ok (.ifCond .eq 76, 3) := dk_153 0 76 (dk_at dksX2_token_3 3 rfl rfl)
theorem dX2_token_74 : decode cX2_token 74 = .ok (.aload_n 0, 1) := dk_42 (dk_at dksX2_token_3 6 rfl rfl)
theorem dX2_token_75 : decode cX2_token 75 = .ok (.invokevirtual 195, 3) := dk_182 0 195 (dk_at dksX2_token_3 7 rfl rfl)
theorem dX2_token_78 : decode cX2_token 78 = .ok (.bipush 97, 2) := dk_16 97 (dk_at dksX2_token_3 10 rfl rfl)
theorem dX2_token_80 : decode cX2_token 80 = .ok (.bipush 122, 2) := dk_16 122 (dk_at dksX2_token_3 12 rfl rfl)
theorem dX2_token_82 : decode cX2_token 82 = .ok (.invokestatic 181, 3) := dk_184 0 181 (dk_at dksX2_token_3 14 rfl rfl)
theorem dX2_token_85 : decode cX2_token 85 = .ok (.ifCond .eq 36, 3) := dk_153 0 36 (dk_at dksX2_token_3 17 rfl rfl)
theorem dX2_token_88 : decode cX2_token 88 = .ok (.aload_n 0, 1) := dk_42 (dk_at dksX2_token_3 20 rfl rfl)
theorem dX2_token_89 : decode cX2_token 89 = .ok (.aload_n 0, 1) := dk_42 (dk_at dksX2_token_3 21 rfl rfl)
theorem dX2_token_90 : decode cX2_token 90 = .ok (.getfield 202, 3) := dk_180 0 202 (dk_at dksX2_token_4 0 rfl rfl)
theorem dX2_token_93 : decode cX2_token 93 = .ok (.bipush 8, 2) := dk_16 8 (dk_at dksX2_token_4 3 rfl rfl)
theorem dX2_token_95 : decode cX2_token 95 = .ok (.lshl, 1) := dk_121 (dk_at dksX2_token_4 5 rfl rfl)
theorem dX2_token_96 : decode cX2_token 96 = .ok (.aload_n 0, 1) := dk_42 (dk_at dksX2_token_4 6 rfl rfl)
theorem dX2_token_97 : decode cX2_token 97 = .ok (.invokevirtual 195, 3) := dk_182 0 195 (dk_at dksX2_token_4 7 rfl rfl)
theorem dX2_token_100 : decode cX2_token 100 = .ok (.i2l, 1) := dk_133 (dk_at dksX2_token_4 10 rfl rfl)
theorem dX2_token_101 : decode cX2_token 101 = .ok (.lor, 1) := dk_129 (dk_at dksX2_token_4 11 rfl rfl)
theorem dX2_token_102 : decode cX2_token 102 = .ok (.putfield 202, 3) := dk_181 0 202 (dk_at dksX2_token_4 12 rfl rfl)
theorem dX2_token_105 : decode cX2_token 105 = .ok (.aload_n 0, 1) := dk_42 (dk_at dksX2_token_4 15 rfl rfl)
theorem dX2_token_106 : decode cX2_token 106 = .ok (.dup, 1) := dk_89 (dk_at dksX2_token_4 16 rfl rfl)
theorem dX2_token_107 : decode cX2_token 107 = .ok (.getfield 189, 3) := dk_180 0 189 (dk_at dksX2_token_4 17 rfl rfl)
theorem dX2_token_110 : decode cX2_token 110 = .ok (.iconst 1, 1) := dk_4 (dk_at dksX2_token_4 20 rfl rfl)
theorem dX2_token_111 : decode cX2_token 111 = .ok (.iadd, 1) := dk_96 (dk_at dksX2_token_4 21 rfl rfl)
theorem dX2_token_112 : decode cX2_token 112 = .ok (.putfield 189, 3) := dk_181 0 189 (dk_at dksX2_token_5 0 rfl rfl)
theorem dX2_token_115 : decode cX2_token 115 = .ok (.iinc 2 1, 3) := dk_132 2 1 (dk_at dksX2_token_5 3 rfl rfl)
theorem dX2_token_118 : decode cX2_token 118 = .ok (.goto (-44), 3) := dk_167 255 212 (dk_at dksX2_token_5 6 rfl rfl)
theorem dX2_token_121 : decode cX2_token 121 = .ok (.aload_n 0, 1) := dk_42 (dk_at dksX2_token_5 9 rfl rfl)
theorem dX2_token_122 : decode cX2_token 122 = .ok (.iload_n 2, 1) := dk_28 (dk_at dksX2_token_5 10 rfl rfl)
theorem dX2_token_123 : decode cX2_token 123 = .ok (.bipush 8, 2) := dk_16 8 (dk_at dksX2_token_5 11 rfl rfl)
theorem dX2_token_125 : decode cX2_token 125 = .ok (.if_icmp .le 7, 3) := dk_164 0 7 (dk_at dksX2_token_5 13 rfl rfl)
theorem dX2_token_128 : decode cX2_token 128 = .ok (.lconst 0, 1) := dk_9 (dk_at dksX2_token_5 16 rfl rfl)
theorem dX2_token_129 : decode cX2_token 129 = .ok (.goto 7, 3) := dk_167 0 7 (dk_at dksX2_token_5 17 rfl rfl)
theorem dX2_token_132 : decode cX2_token 132 = .ok (.aload_n 0, 1) := dk_42 (dk_at dksX2_token_5 20 rfl rfl)
theorem dX2_token_133 : decode cX2_token 133 = .ok (.getfield 202, 3) := dk_180 0 202 (dk_at dksX2_token_5 21 rfl rfl)
theorem dX2_token_136 : decode cX2_token 136 = .ok (.putfield 202, 3) := dk_181 0 202 (dk_at dksX2_token_6 0 rfl rfl)
theorem dX2_token_139 : decode cX2_token 139 = .ok (.aload_n 0, 1) := dk_42 (dk_at dksX2_token_6 3 rfl rfl)
theorem dX2_token_140 : decode cX2_token 140 = .ok (.iconst 2, 1) := dk_5 (dk_at dksX2_token_6 4 rfl rfl)
theorem dX2_token_141 : decode cX2_token 141 = .ok (.putfield 206, 3) := dk_181 0 206 (dk_at dksX2_token_6 5 rfl rfl)
theorem dX2_token_144 : decode cX2_token 144 = .ok (.goto 122, 3) := dk_167 0 122 (dk_at dksX2_token_6 8 rfl rfl)
theorem dX2_token_147 : decode cX2_token 147 = .ok (.iload_n 1, 1) := dk_27 (dk_at dksX2_token_6 11 rfl rfl)
theorem dX2_token_148 : decode cX2_token 148 = .ok (.bipush 48, 2) := dk_16 48 (dk_at dksX2_token_6 12 rfl rfl)
theorem dX2_token_150 : decode cX2_token 150 = .ok (.bipush 57, 2) := dk_16 57 (dk_at dksX2_token_6 14 rfl rfl)
theorem dX2_token_152 : decode cX2_token 152 = .ok (.invokestatic 181, 3) := dk_184 0 181 (dk_at dksX2_token_6 16 rfl rfl)
theorem dX2_token_155 : decode cX2_token 155 = .ok (.ifCond .eq 86, 3) := dk_153 0 86 (dk_at dksX2_token_6 19 rfl rfl)
theorem dX2_token_158 : decode cX2_token 158 = .ok (.aload_n 0, 1) := dk_42 (dk_at dksX2_token_6 22 rfl rfl)
theorem dX2_token_159 : decode cX2_token 159 = .ok (.iconst 0, 1) := dk_3 (dk_at dksX2_token_6 23 rfl rfl)
theorem dX2_token_160 : decode cX2_token 160 = .ok (.putfield 209, 3) := dk_181 0 209 (dk_at dksX2_token_7 0 rfl rfl)
theorem dX2_token_163 : decode cX2_token 163 = .ok (.aload_n 0, 1) := dk_42 (dk_at dksX2_token_7 3 rfl rfl)
theorem dX2_token_164 : decode cX2_token 164 = .ok (.invokevirtual 195, 3) := dk_182 0 195 (dk_at dksX2_token_7 4 rfl rfl)
theorem dX2_token_167 : decode cX2_token 167 = .ok (.bipush 48, 2) := dk_16 48 (dk_at dksX2_token_7 7 rfl rfl)
theorem dX2_token_169 : decode cX2_token 169 = .ok (.bipush 57, 2) := dk_16 57 (dk_at dksX2_token_7 9 rfl rfl)
theorem dX2_token_171 : decode cX2_token 171 = .ok (.invokestatic 181, 3) := dk_184 0 181 (dk_at dksX2_token_7 11 rfl rfl)
theorem dX2_token_174 : decode cX2_token 174 = .ok (.ifCond .eq 50, 3) := dk_153 0 50 (dk_at dksX2_token_7 14 rfl rfl)
theorem dX2_token_177 : decode cX2_token 177 = .ok (.aload_n 0, 1) := dk_42 (dk_at dksX2_token_7 17 rfl rfl)
theorem dX2_token_178 : decode cX2_token 178 = .ok (.iload_n 2, 1) := dk_28 (dk_at dksX2_token_7 18 rfl rfl)
theorem dX2_token_179 : decode cX2_token 179 = .ok (.iconst 2, 1) := dk_5 (dk_at dksX2_token_7 19 rfl rfl)
theorem dX2_token_180 : decode cX2_token 180 = .ok (.if_icmp .ge 21, 3) := dk_162 0 21 (dk_at dksX2_token_7 20 rfl rfl)
theorem dX2_token_183 : decode cX2_token 183 = .ok (.bipush 10, 2) := dk_16 10 (dk_at dksX2_token_8 0 rfl rfl)
theorem dX2_token_185 : decode cX2_token 185 = .ok (.aload_n 0, 1) := dk_42 (dk_at dksX2_token_8 2 rfl rfl)
theorem dX2_token_186 : decode cX2_token 186 = .ok (.getfield 209, 3) := dk_180 0 209 (dk_at dksX2_token_8 3 rfl rfl)
theorem dX2_token_189 : decode cX2_token 189 = .ok (.imul, 1) := dk_104 (dk_at dksX2_token_8 6 rfl rfl)
theorem dX2_token_190 : decode cX2_token 190 = .ok (.aload_n 0, 1) := dk_42 (dk_at dksX2_token_8 7 rfl rfl)
theorem dX2_token_191 : decode cX2_token 191 = .ok (.invokevirtual 195, 3) := dk_182 0 195 (dk_at dksX2_token_8 8 rfl rfl)
theorem dX2_token_194 : decode cX2_token 194 = .ok (.iadd, 1) := dk_96 (dk_at dksX2_token_8 11 rfl rfl)
theorem dX2_token_195 : decode cX2_token 195 = .ok (.bipush 48, 2) := dk_16 48 (dk_at dksX2_token_8 12 rfl rfl)
theorem dX2_token_197 : decode cX2_token 197 = .ok (.isub, 1) := dk_100 (dk_at dksX2_token_8 14 rfl rfl)
theorem dX2_token_198 : decode cX2_token 198 = .ok (.goto 7, 3) := dk_167 0 7 (dk_at dksX2_token_8 15 rfl rfl)
theorem dX2_token_201 : decode cX2_token 201 = .ok (.aload_n 0, 1) := dk_42 (dk_at dksX2_token_8 18 rfl rfl)
theorem dX2_token_202 : decode cX2_token 202 = .ok (.getfield 209, 3) := dk_180 0 209 (dk_at dksX2_token_8 19 rfl rfl)
theorem dX2_token_205 : decode cX2_token 205 = .ok (.putfield 209, 3) := dk_181 0 209 (dk_at dksX2_token_9 0 rfl rfl)
theorem dX2_token_208 : decode cX2_token 208 = .ok (.aload_n 0, 1) := dk_42 (dk_at dksX2_token_9 3 rfl rfl)
theorem dX2_token_209 : decode cX2_token 209 = .ok (.dup, 1) := dk_89 (dk_at dksX2_token_9 4 rfl rfl)
theorem dX2_token_210 : decode cX2_token 210 = .ok (.getfield 189, 3) := dk_180 0 189 (dk_at dksX2_token_9 5 rfl rfl)
theorem dX2_token_213 : decode cX2_token 213 = .ok (.iconst 1, 1) := dk_4 (dk_at dksX2_token_9 8 rfl rfl)
theorem dX2_token_214 : decode cX2_token 214 = .ok (.iadd, 1) := dk_96 (dk_at dksX2_token_9 9 rfl rfl)
theorem dX2_token_215 : decode cX2_token 215 = .ok (.putfield 189, 3) := dk_181 0 189 (dk_at dksX2_token_9 10 rfl rfl)
theorem dX2_token_218 : decode cX2_token 218 = .ok (.iinc 2 1, 3) := dk_132 2 1 (dk_at dksX2_token_9 13 rfl rfl)
theorem dX2_token_221 : decode cX2_token 221 = .ok (.goto (-58), 3) := dk_167 255 198 (dk_at dksX2_token_9 16 rfl rfl)
theorem dX2_token_224 : decode cX2_token 224 = .ok (.aload_n 0, 1) := dk_42 (dk_at dksX2_token_9 19 rfl rfl)
theorem dX2_token_225 : decode cX2_token 225 = .ok (.iload_n 2, 1) := dk_28 (dk_at dksX2_token_9 20 rfl rfl)
theorem dX2_token_226 : decode cX2_token 226 = .ok (.iconst 2, 1) := dk_5 (dk_at dksX2_token_9 21 rfl rfl)
theorem dX2_token_227 : decode cX2_token 227 = .ok (.if_icmp .le 7, 3) := dk_164 0 7 (dk_at dksX2_token_10 0 rfl rfl)
theorem dX2_token_230 : decode cX2_token 230 = .ok (.iconst 1, 1) := dk_4 (dk_at dksX2_token_10 3 rfl rfl)
theorem dX2_token_231 : decode cX2_token 231 = .ok (.goto 4, 3) := dk_167 0 4 (dk_at dksX2_token_10 4 rfl rfl)
theorem dX2_token_234 : decode cX2_token 234 = .ok (.iconst 3, 1) := dk_6 (dk_at dksX2_token_10 7 rfl rfl)
theorem dX2_token_235 : decode cX2_token 235 = .ok (.putfield 206, 3) := dk_181 0 206 (dk_at dksX2_token_10 8 rfl rfl)
theorem dX2_token_238 : decode cX2_token 238 = .ok (.goto 28, 3) := dk_167 0 28 (dk_at dksX2_token_10 11 rfl rfl)
theorem dX2_token_241 : decode cX2_token 241 = .ok (.aload_n 0, 1) := dk_42 (dk_at dksX2_token_10 14 rfl rfl)
theorem dX2_token_242 : decode cX2_token 242 = .ok (.dup, 1) := dk_89 (dk_at dksX2_token_10 15 rfl rfl)
theorem dX2_token_243 : decode cX2_token 243 = .ok (.getfield 189, 3) := dk_180 0 189 (dk_at dksX2_token_10 16 rfl rfl)
theorem dX2_token_246 : decode cX2_token 246 = .ok (.iconst 1, 1) := dk_4 (dk_at dksX2_token_10 19 rfl rfl)
theorem dX2_token_247 : decode cX2_token 247 = .ok (.iadd, 1) := dk_96 (dk_at dksX2_token_10 20 rfl rfl)
theorem dX2_token_248 : decode cX2_token 248 = .ok (.putfield 189, 3) := dk_181 0 189 (dk_at dksX2_token_10 21 rfl rfl)
theorem dX2_token_251 : decode cX2_token 251 = .ok (.aload_n 0, 1) := dk_42 (dk_at dksX2_token_11 0 rfl rfl)
theorem dX2_token_252 : decode cX2_token 252 = .ok (.iload_n 1, 1) := dk_27 (dk_at dksX2_token_11 1 rfl rfl)
theorem dX2_token_253 : decode cX2_token 253 = .ok (.bipush 59, 2) := dk_16 59 (dk_at dksX2_token_11 2 rfl rfl)
theorem dX2_token_255 : decode cX2_token 255 = .ok (.if_icmp .ne 7, 3) := dk_160 0 7 (dk_at dksX2_token_11 4 rfl rfl)
theorem dX2_token_258 : decode cX2_token 258 = .ok (.iconst 4, 1) := dk_7 (dk_at dksX2_token_11 7 rfl rfl)
theorem dX2_token_259 : decode cX2_token 259 = .ok (.goto 4, 3) := dk_167 0 4 (dk_at dksX2_token_11 8 rfl rfl)
theorem dX2_token_262 : decode cX2_token 262 = .ok (.iconst 1, 1) := dk_4 (dk_at dksX2_token_11 11 rfl rfl)
theorem dX2_token_263 : decode cX2_token 263 = .ok (.putfield 206, 3) := dk_181 0 206 (dk_at dksX2_token_11 12 rfl rfl)
theorem dX2_token_266 : decode cX2_token 266 = .ok (.return_, 1) := dk_177 (dk_at dksX2_token_11 15 rfl rfl)
abbrev cX2_see : ByteArray := prog_25_method_14_code
def yX2_see : MethodName := ⟨RX2, "see", "()I"⟩
def dkwX2_see_1 : List UInt8 := [167, 0, 4, 2, 172]
abbrev dktX2_see_1 : List UInt8 := dkwX2_see_1 ++ []
def dkwX2_see_0 : List UInt8 := [42, 180, 0, 189, 42, 180, 0, 192, 162, 0, 19, 42, 180, 0, 7, 42, 180, 0, 189, 51, 17, 0, 255, 126]
abbrev dktX2_see_0 : List UInt8 := dkwX2_see_0 ++ dktX2_see_1
theorem dksX2_see_0 : cX2_see.data.toList.drop 0 = dktX2_see_0 := by decide +kernel
theorem dksX2_see_1 : cX2_see.data.toList.drop 24 = dktX2_see_1 := dk_seg dksX2_see_0 24 rfl rfl
theorem dX2_see_0 : decode cX2_see 0 = .ok (.aload_n 0, 1) := dk_42 (dk_at dksX2_see_0 0 rfl rfl)
theorem dX2_see_1 : decode cX2_see 1 = .ok (.getfield 189, 3) := dk_180 0 189 (dk_at dksX2_see_0 1 rfl rfl)
theorem dX2_see_4 : decode cX2_see 4 = .ok (.aload_n 0, 1) := dk_42 (dk_at dksX2_see_0 4 rfl rfl)
theorem dX2_see_5 : decode cX2_see 5 = .ok (.getfield 192, 3) := dk_180 0 192 (dk_at dksX2_see_0 5 rfl rfl)
theorem dX2_see_8 : decode cX2_see 8 = .ok (.if_icmp .ge 19, 3) := dk_162 0 19 (dk_at dksX2_see_0 8 rfl rfl)
theorem dX2_see_11 : decode cX2_see 11 = .ok (.aload_n 0, 1) := dk_42 (dk_at dksX2_see_0 11 rfl rfl)
theorem dX2_see_12 : decode cX2_see 12 = .ok (.getfield 7, 3) := dk_180 0 7 (dk_at dksX2_see_0 12 rfl rfl)
theorem dX2_see_15 : decode cX2_see 15 = .ok (.aload_n 0, 1) := dk_42 (dk_at dksX2_see_0 15 rfl rfl)
theorem dX2_see_16 : decode cX2_see 16 = .ok (.getfield 189, 3) := dk_180 0 189 (dk_at dksX2_see_0 16 rfl rfl)
theorem dX2_see_19 : decode cX2_see 19 = .ok (.baload, 1) := dk_51 (dk_at dksX2_see_0 19 rfl rfl)
theorem dX2_see_20 : decode cX2_see 20 = .ok (.sipush 255, 3) := dk_17 0 255 (dk_at dksX2_see_0 20 rfl rfl)
theorem dX2_see_23 : decode cX2_see 23 = .ok (.iand, 1) := dk_126 (dk_at dksX2_see_0 23 rfl rfl)
theorem dX2_see_24 : decode cX2_see 24 = .ok (.goto 4, 3) := dk_167 0 4 (dk_at dksX2_see_1 0 rfl rfl)
theorem dX2_see_27 : decode cX2_see 27 = .ok (.iconst (-1), 1) := dk_2 (dk_at dksX2_see_1 3 rfl rfl)
theorem dX2_see_28 : decode cX2_see 28 = .ok (.ireturn, 1) := dk_172 (dk_at dksX2_see_1 4 rfl rfl)
abbrev cX2_allLines : ByteArray := prog_25_method_31_code
def yX2_allLines : MethodName := ⟨RX2, "allLines", "(I)Z"⟩
def dkwX2_allLines_4 : List UInt8 := [61, 28, 153, 0, 7, 42, 182, 0, 233, 167, 255, 155, 28, 172]
abbrev dktX2_allLines_4 : List UInt8 := dkwX2_allLines_4 ++ []
def dkwX2_allLines_3 : List UInt8 := [42, 22, 4, 29, 182, 1, 60, 61, 28, 153, 0, 16, 42, 180, 0, 206, 7, 159, 0, 8, 42, 182, 0, 221]
abbrev dktX2_allLines_3 : List UInt8 := dkwX2_allLines_3 ++ dktX2_allLines_4
def dkwX2_allLines_2 : List UInt8 := [22, 4, 29, 182, 1, 53, 167, 0, 25, 27, 4, 160, 0, 13, 42, 22, 4, 29, 182, 1, 57, 167, 0, 10]
abbrev dktX2_allLines_2 : List UInt8 := dkwX2_allLines_2 ++ dktX2_allLines_3
def dkwX2_allLines_1 : List UInt8 := [160, 0, 10, 42, 180, 0, 202, 167, 0, 4, 9, 55, 4, 42, 4, 181, 0, 229, 27, 154, 0, 13, 42]
abbrev dktX2_allLines_1 : List UInt8 := dkwX2_allLines_1 ++ dktX2_allLines_2
def dkwX2_allLines_0 : List UInt8 := [4, 61, 28, 153, 0, 103, 42, 180, 0, 206, 153, 0, 96, 42, 180, 0, 199, 62, 42, 180, 0, 206, 5]
abbrev dktX2_allLines_0 : List UInt8 := dkwX2_allLines_0 ++ dktX2_allLines_1
theorem dksX2_allLines_0 : cX2_allLines.data.toList.drop 0 = dktX2_allLines_0 := by decide +kernel
theorem dksX2_allLines_1 : cX2_allLines.data.toList.drop 23 = dktX2_allLines_1 := dk_seg dksX2_allLines_0 23 rfl rfl
theorem dksX2_allLines_2 : cX2_allLines.data.toList.drop 46 = dktX2_allLines_2 := dk_seg dksX2_allLines_1 23 rfl rfl
theorem dksX2_allLines_3 : cX2_allLines.data.toList.drop 70 = dktX2_allLines_3 := dk_seg dksX2_allLines_2 24 rfl rfl
theorem dksX2_allLines_4 : cX2_allLines.data.toList.drop 94 = dktX2_allLines_4 := dk_seg dksX2_allLines_3 24 rfl rfl
theorem dX2_allLines_0 : decode cX2_allLines 0 = .ok (.iconst 1, 1) := dk_4 (dk_at dksX2_allLines_0 0 rfl rfl)
theorem dX2_allLines_1 : decode cX2_allLines 1 = .ok (.istore_n 2, 1) := dk_61 (dk_at dksX2_allLines_0 1 rfl rfl)
theorem dX2_allLines_2 : decode cX2_allLines 2 = .ok (.iload_n 2, 1) := dk_28 (dk_at dksX2_allLines_0 2 rfl rfl)
theorem dX2_allLines_3 : decode cX2_allLines 3 = .ok (.ifCond .eq 103, 3) := dk_153 0 103 (dk_at dksX2_allLines_0 3 rfl rfl)
theorem dX2_allLines_6 : decode cX2_allLines 6 = .ok (.aload_n 0, 1) := dk_42 (dk_at dksX2_allLines_0 6 rfl rfl)
theorem dX2_allLines_7 : decode cX2_allLines 7 = .ok (.getfield 206, 3) := dk_180 0 206 (dk_at dksX2_allLines_0 7 rfl rfl)
theorem dX2_allLines_10 : decode cX2_allLines 10 = .ok (.ifCond .eq 96, 3) := dk_153 0 96 (dk_at dksX2_allLines_0 10 rfl rfl)
theorem dX2_allLines_13 : decode cX2_allLines 13 = .ok (.aload_n 0, 1) := dk_42 (dk_at dksX2_allLines_0 13 rfl rfl)
theorem dX2_allLines_14 : decode cX2_allLines 14 = .ok (.getfield 199, 3) := dk_180 0 199 (dk_at dksX2_allLines_0 14 rfl rfl)
theorem dX2_allLines_17 : decode cX2_allLines 17 = .ok (.istore_n 3, 1) := dk_62 (dk_at dksX2_allLines_0 17 rfl rfl)
theorem dX2_allLines_18 : decode cX2_allLines 18 = .ok (.aload_n 0, 1) := dk_42 (dk_at dksX2_allLines_0 18 rfl rfl)
theorem dX2_allLines_19 : decode cX2_allLines 19 = .ok (.getfield 206, 3) := dk_180 0 206 (dk_at dksX2_allLines_0 19 rfl rfl)
theorem dX2_allLines_22 : decode cX2_allLines 22 = .ok (.iconst 2, 1) := dk_5 (dk_at dksX2_allLines_0 22 rfl rfl)
theorem dX2_allLines_23 : decode cX2_allLines 23 = .ok (.if_icmp .ne 10, 3) := dk_160 0 10 (dk_at dksX2_allLines_1 0 rfl rfl)
theorem dX2_allLines_26 : decode cX2_allLines 26 = .ok (.aload_n 0, 1) := dk_42 (dk_at dksX2_allLines_1 3 rfl rfl)
theorem dX2_allLines_27 : decode cX2_allLines 27 = .ok (.getfield 202, 3) := dk_180 0 202 (dk_at dksX2_allLines_1 4 rfl rfl)
theorem dX2_allLines_30 : decode cX2_allLines 30 = .ok (.goto 4, 3) := dk_167 0 4 (dk_at dksX2_allLines_1 7 rfl rfl)
theorem dX2_allLines_33 : decode cX2_allLines 33 = .ok (.lconst 0, 1) := dk_9 (dk_at dksX2_allLines_1 10 rfl rfl)
theorem dX2_allLines_34 : decode cX2_allLines 34 = .ok (.lstore 4, 2) := dk_55 4 (dk_at dksX2_allLines_1 11 rfl rfl)
theorem dX2_allLines_36 : decode cX2_allLines 36 = .ok (.aload_n 0, 1) := dk_42 (dk_at dksX2_allLines_1 13 rfl rfl)
theorem dX2_allLines_37 : decode cX2_allLines 37 = .ok (.iconst 1, 1) := dk_4 (dk_at dksX2_allLines_1 14 rfl rfl)
theorem dX2_allLines_38 : decode cX2_allLines 38 = .ok (.putfield 229, 3) := dk_181 0 229 (dk_at dksX2_allLines_1 15 rfl rfl)
theorem dX2_allLines_41 : decode cX2_allLines 41 = .ok (.iload_n 1, 1) := dk_27 (dk_at dksX2_allLines_1 18 rfl rfl)
theorem dX2_allLines_42 : decode cX2_allLines 42 = .ok (.ifCond .ne 13, 3) := dk_154 0 13 (dk_at dksX2_allLines_1 19 rfl rfl)
theorem dX2_allLines_45 : decode cX2_allLines 45 = .ok (.aload_n 0, 1) := dk_42 (dk_at dksX2_allLines_1 22 rfl rfl)
theorem dX2_allLines_46 : decode cX2_allLines 46 = .ok (.lload 4, 2) := dk_22 4 (dk_at dksX2_allLines_2 0 rfl rfl)
theorem dX2_allLines_48 : decode cX2_allLines 48 = .ok (.iload_n 3, 1) := dk_29 (dk_at dksX2_allLines_2 2 rfl rfl)
theorem dX2_allLines_49 : decode cX2_allLines 49 = .ok (.invokevirtual 309, 3) := dk_182 1 53 (dk_at dksX2_allLines_2 3 rfl rfl)
theorem dX2_allLines_52 : decode cX2_allLines 52 = .ok (.goto 25, 3) := dk_167 0 25 (dk_at dksX2_allLines_2 6 rfl rfl)
theorem dX2_allLines_55 : decode cX2_allLines 55 = .ok (.iload_n 1, 1) := dk_27 (dk_at dksX2_allLines_2 9 rfl rfl)
theorem dX2_allLines_56 : decode cX2_allLines 56 = .ok (.iconst 1, 1) := dk_4 (dk_at dksX2_allLines_2 10 rfl rfl)
theorem dX2_allLines_57 : decode cX2_allLines 57 = .ok (.if_icmp .ne 13, 3) := dk_160 0 13 (dk_at dksX2_allLines_2 11 rfl rfl)
theorem dX2_allLines_60 : decode cX2_allLines 60 = .ok (.aload_n 0, 1) := dk_42 (dk_at dksX2_allLines_2 14 rfl rfl)
theorem dX2_allLines_61 : decode cX2_allLines 61 = .ok (.lload 4, 2) := dk_22 4 (dk_at dksX2_allLines_2 15 rfl rfl)
theorem dX2_allLines_63 : decode cX2_allLines 63 = .ok (.iload_n 3, 1) := dk_29 (dk_at dksX2_allLines_2 17 rfl rfl)
theorem dX2_allLines_64 : decode cX2_allLines 64 = .ok (.invokevirtual 313, 3) := dk_182 1 57 (dk_at dksX2_allLines_2 18 rfl rfl)
theorem dX2_allLines_67 : decode cX2_allLines 67 = .ok (.goto 10, 3) := dk_167 0 10 (dk_at dksX2_allLines_2 21 rfl rfl)
theorem dX2_allLines_70 : decode cX2_allLines 70 = .ok (.aload_n 0, 1) := dk_42 (dk_at dksX2_allLines_3 0 rfl rfl)
theorem dX2_allLines_71 : decode cX2_allLines 71 = .ok (.lload 4, 2) := dk_22 4 (dk_at dksX2_allLines_3 1 rfl rfl)
theorem dX2_allLines_73 : decode cX2_allLines 73 = .ok (.iload_n 3, 1) := dk_29 (dk_at dksX2_allLines_3 3 rfl rfl)
theorem dX2_allLines_74 : decode cX2_allLines 74 = .ok (.invokevirtual 316, 3) := dk_182 1 60 (dk_at dksX2_allLines_3 4 rfl rfl)
theorem dX2_allLines_77 : decode cX2_allLines 77 = .ok (.istore_n 2, 1) := dk_61 (dk_at dksX2_allLines_3 7 rfl rfl)
theorem dX2_allLines_78 : decode cX2_allLines 78 = .ok (.iload_n 2, 1) := dk_28 (dk_at dksX2_allLines_3 8 rfl rfl)
theorem dX2_allLines_79 : decode cX2_allLines 79 = .ok (.ifCond .eq 16, 3) := dk_153 0 16 (dk_at dksX2_allLines_3 9 rfl rfl)
theorem dX2_allLines_82 : decode cX2_allLines 82 = .ok (.aload_n 0, 1) := dk_42 (dk_at dksX2_allLines_3 12 rfl rfl)
theorem dX2_allLines_83 : decode cX2_allLines 83 = .ok (.getfield 206, 3) := dk_180 0 206 (dk_at dksX2_allLines_3 13 rfl rfl)
theorem dX2_allLines_86 : decode cX2_allLines 86 = .ok (.iconst 4, 1) := dk_7 (dk_at dksX2_allLines_3 16 rfl rfl)
theorem dX2_allLines_87 : decode cX2_allLines 87 = .ok (.if_icmp .eq 8, 3) := dk_159 0 8 (dk_at dksX2_allLines_3 17 rfl rfl)
theorem dX2_allLines_90 : decode cX2_allLines 90 = .ok (.aload_n 0, 1) := dk_42 (dk_at dksX2_allLines_3 20 rfl rfl)
theorem dX2_allLines_91 : decode cX2_allLines 91 = .ok (.invokevirtual 221, 3) := dk_182 0 221 (dk_at dksX2_allLines_3 21 rfl rfl)
theorem dX2_allLines_94 : decode cX2_allLines 94 = .ok (.istore_n 2, 1) := dk_61 (dk_at dksX2_allLines_4 0 rfl rfl)
theorem dX2_allLines_95 : decode cX2_allLines 95 = .ok (.iload_n 2, 1) := dk_28 (dk_at dksX2_allLines_4 1 rfl rfl)
theorem dX2_allLines_96 : decode cX2_allLines 96 = .ok (.ifCond .eq 7, 3) := dk_153 0 7 (dk_at dksX2_allLines_4 2 rfl rfl)
theorem dX2_allLines_99 : decode cX2_allLines 99 = .ok (.aload_n 0, 1) := dk_42 (dk_at dksX2_allLines_4 5 rfl rfl)
theorem dX2_allLines_100 : decode cX2_allLines 100 = .ok (.invokevirtual 233, 3) := dk_182 0 233 (dk_at dksX2_allLines_4 6 rfl rfl)
theorem dX2_allLines_103 : decode cX2_allLines 103 = .ok (.goto (-101), 3) := dk_167 255 155 (dk_at dksX2_allLines_4 9 rfl rfl)
theorem dX2_allLines_106 : decode cX2_allLines 106 = .ok (.iload_n 2, 1) := dk_28 (dk_at dksX2_allLines_4 12 rfl rfl)
theorem dX2_allLines_107 : decode cX2_allLines 107 = .ok (.ireturn, 1) := dk_172 (dk_at dksX2_allLines_4 13 rfl rfl)
abbrev cX2_netLine : ByteArray := prog_25_method_27_code
def yX2_netLine : MethodName := ⟨RX2, "netLine", "(JI)Z"⟩
def dkwX2_netLine_15 : List UInt8 := [182, 1, 3, 167, 0, 13, 42, 7, 16, 104, 6, 16, 6, 182, 1, 3, 4, 172]
abbrev dktX2_netLine_15 : List UInt8 := dkwX2_netLine_15 ++ []
def dkwX2_netLine_14 : List UInt8 := [182, 1, 11, 154, 0, 5, 3, 172, 31, 20, 1, 24, 148, 154, 0, 16, 42, 6, 16, 56, 7, 16, 12]
abbrev dktX2_netLine_14 : List UInt8 := dkwX2_netLine_14 ++ dktX2_netLine_15
def dkwX2_netLine_13 : List UInt8 := [182, 1, 16, 153, 0, 26, 42, 31, 20, 1, 24, 148, 154, 0, 7, 6, 167, 0, 4, 5, 3, 16, 99]
abbrev dktX2_netLine_13 : List UInt8 := dkwX2_netLine_13 ++ dktX2_netLine_14
def dkwX2_netLine_12 : List UInt8 := [182, 1, 32, 153, 0, 48, 31, 20, 1, 24, 148, 154, 0, 17, 42, 5, 42, 180, 0, 38, 3, 46]
abbrev dktX2_netLine_12 : List UInt8 := dkwX2_netLine_12 ++ dktX2_netLine_13
def dkwX2_netLine_11 : List UInt8 := [167, 0, 5, 16, 6, 29, 182, 1, 28, 42, 182, 0, 233, 42, 3, 2, 182, 1, 16, 153, 0, 56, 42, 4]
abbrev dktX2_netLine_11 : List UInt8 := dkwX2_netLine_11 ++ dktX2_netLine_12
def dkwX2_netLine_10 : List UInt8 := [20, 1, 24, 148, 154, 0, 7, 6, 167, 0, 4, 7, 31, 20, 1, 24, 148, 154, 0, 8, 16, 12]
abbrev dktX2_netLine_10 : List UInt8 := dkwX2_netLine_10 ++ dktX2_netLine_11
def dkwX2_netLine_9 : List UInt8 := [172, 31, 20, 1, 24, 148, 153, 0, 16, 31, 20, 1, 26, 148, 153, 0, 8, 42, 182, 0, 221, 172, 42, 31]
abbrev dktX2_netLine_9 : List UInt8 := dkwX2_netLine_9 ++ dktX2_netLine_10
def dkwX2_netLine_8 : List UInt8 := [5, 4, 16, 9, 182, 1, 11, 154, 0, 5, 3, 172, 42, 180, 0, 229, 153, 0, 7, 42, 182, 1, 21, 4]
abbrev dktX2_netLine_8 : List UInt8 := dkwX2_netLine_8 ++ dktX2_netLine_9
def dkwX2_netLine_7 : List UInt8 := [42, 3, 2, 182, 1, 16, 153, 0, 28, 42, 4, 42, 180, 0, 38, 3, 46, 182, 1, 16, 153, 0, 14, 42]
abbrev dktX2_netLine_7 : List UInt8 := dkwX2_netLine_7 ++ dktX2_netLine_8
def dkwX2_netLine_6 : List UInt8 := [3, 46, 96, 42, 180, 0, 38, 4, 46, 79, 4, 172, 31, 20, 1, 19, 148, 154, 0, 56, 42, 182, 0, 233]
abbrev dktX2_netLine_6 : List UInt8 := dkwX2_netLine_6 ++ dktX2_netLine_7
def dkwX2_netLine_5 : List UInt8 := [182, 1, 11, 154, 0, 5, 3, 172, 42, 180, 0, 229, 153, 0, 22, 42, 180, 0, 35, 8, 42, 180, 0, 38]
abbrev dktX2_netLine_5 : List UInt8 := dkwX2_netLine_5 ++ dktX2_netLine_6
def dkwX2_netLine_4 : List UInt8 := [20, 1, 14, 148, 154, 0, 56, 42, 182, 0, 233, 42, 3, 2, 182, 1, 16, 153, 0, 13, 42, 4, 3, 7]
abbrev dktX2_netLine_4 : List UInt8 := dkwX2_netLine_4 ++ dktX2_netLine_5
def dkwX2_netLine_3 : List UInt8 := [153, 0, 12, 42, 180, 0, 38, 3, 46, 167, 0, 10, 42, 180, 0, 35, 21, 4, 46, 79, 4, 172, 31]
abbrev dktX2_netLine_3 : List UInt8 := dkwX2_netLine_3 ++ dktX2_netLine_4
def dkwX2_netLine_2 : List UInt8 := [20, 1, 7, 148, 154, 0, 7, 3, 167, 0, 4, 4, 54, 4, 42, 180, 0, 35, 21, 4, 42, 180, 0, 229]
abbrev dktX2_netLine_2 : List UInt8 := dkwX2_netLine_2 ++ dktX2_netLine_3
def dkwX2_netLine_1 : List UInt8 := [20, 1, 7, 148, 154, 0, 8, 16, 6, 167, 0, 5, 16, 99, 182, 1, 11, 154, 0, 5, 3, 172, 31]
abbrev dktX2_netLine_1 : List UInt8 := dkwX2_netLine_1 ++ dktX2_netLine_2
def dkwX2_netLine_0 : List UInt8 := [31, 20, 1, 7, 148, 153, 0, 11, 31, 20, 1, 9, 148, 154, 0, 80, 42, 182, 0, 233, 42, 3, 4, 31]
abbrev dktX2_netLine_0 : List UInt8 := dkwX2_netLine_0 ++ dktX2_netLine_1
theorem dksX2_netLine_0 : cX2_netLine.data.toList.drop 0 = dktX2_netLine_0 := by decide +kernel
theorem dksX2_netLine_1 : cX2_netLine.data.toList.drop 24 = dktX2_netLine_1 := dk_seg dksX2_netLine_0 24 rfl rfl
theorem dksX2_netLine_2 : cX2_netLine.data.toList.drop 47 = dktX2_netLine_2 := dk_seg dksX2_netLine_1 23 rfl rfl
theorem dksX2_netLine_3 : cX2_netLine.data.toList.drop 71 = dktX2_netLine_3 := dk_seg dksX2_netLine_2 24 rfl rfl
theorem dksX2_netLine_4 : cX2_netLine.data.toList.drop 94 = dktX2_netLine_4 := dk_seg dksX2_netLine_3 23 rfl rfl
theorem dksX2_netLine_5 : cX2_netLine.data.toList.drop 118 = dktX2_netLine_5 := dk_seg dksX2_netLine_4 24 rfl rfl
theorem dksX2_netLine_6 : cX2_netLine.data.toList.drop 142 = dktX2_netLine_6 := dk_seg dksX2_netLine_5 24 rfl rfl
theorem dksX2_netLine_7 : cX2_netLine.data.toList.drop 166 = dktX2_netLine_7 := dk_seg dksX2_netLine_6 24 rfl rfl
theorem dksX2_netLine_8 : cX2_netLine.data.toList.drop 190 = dktX2_netLine_8 := dk_seg dksX2_netLine_7 24 rfl rfl
theorem dksX2_netLine_9 : cX2_netLine.data.toList.drop 214 = dktX2_netLine_9 := dk_seg dksX2_netLine_8 24 rfl rfl
theorem dksX2_netLine_10 : cX2_netLine.data.toList.drop 238 = dktX2_netLine_10 := dk_seg dksX2_netLine_9 24 rfl rfl
theorem dksX2_netLine_11 : cX2_netLine.data.toList.drop 260 = dktX2_netLine_11 := dk_seg dksX2_netLine_10 22 rfl rfl
theorem dksX2_netLine_12 : cX2_netLine.data.toList.drop 284 = dktX2_netLine_12 := dk_seg dksX2_netLine_11 24 rfl rfl
theorem dksX2_netLine_13 : cX2_netLine.data.toList.drop 306 = dktX2_netLine_13 := dk_seg dksX2_netLine_12 22 rfl rfl
theorem dksX2_netLine_14 : cX2_netLine.data.toList.drop 329 = dktX2_netLine_14 := dk_seg dksX2_netLine_13 23 rfl rfl
theorem dksX2_netLine_15 : cX2_netLine.data.toList.drop 352 = dktX2_netLine_15 := dk_seg dksX2_netLine_14 23 rfl rfl
theorem dX2_netLine_0 : decode cX2_netLine 0 = .ok (.lload_n 1, 1) := dk_31 (dk_at dksX2_netLine_0 0 rfl rfl)
theorem dX2_netLine_1 : decode cX2_netLine 1 = .ok (.ldc2_w 263, 3) := dk_20 1 7 (dk_at dksX2_netLine_0 1 rfl rfl)
theorem dX2_netLine_4 : decode cX2_netLine 4 = .ok (.lcmp, 1) := dk_148 (dk_at dksX2_netLine_0 4 rfl rfl)
theorem dX2_netLine_5 : decode cX2_netLine 5 = .ok (.ifCond .eq 11, 3) := dk_153 0 11 (dk_at dksX2_netLine_0 5 rfl rfl)
theorem dX2_netLine_8 : decode cX2_netLine 8 = .ok (.lload_n 1, 1) := dk_31 (dk_at dksX2_netLine_0 8 rfl rfl)
theorem dX2_netLine_9 : decode cX2_netLine 9 = .ok (.ldc2_w 265, 3) := dk_20 1 9 (dk_at dksX2_netLine_0 9 rfl rfl)
theorem dX2_netLine_12 : decode cX2_netLine 12 = .ok (.lcmp, 1) := dk_148 (dk_at dksX2_netLine_0 12 rfl rfl)
theorem dX2_netLine_13 : decode cX2_netLine 13 = .ok (.ifCond .ne 80, 3) := dk_154 0 80 (dk_at dksX2_netLine_0 13 rfl rfl)
theorem dX2_netLine_16 : decode cX2_netLine 16 = .ok (.aload_n 0, 1) := dk_42 (dk_at dksX2_netLine_0 16 rfl rfl)
theorem dX2_netLine_17 : decode cX2_netLine 17 = .ok (.invokevirtual 233, 3) := dk_182 0 233 (dk_at dksX2_netLine_0 17 rfl rfl)
theorem dX2_netLine_20 : decode cX2_netLine 20 = .ok (.aload_n 0, 1) := dk_42 (dk_at dksX2_netLine_0 20 rfl rfl)
theorem dX2_netLine_21 : decode cX2_netLine 21 = .ok (.iconst 0, 1) := dk_3 (dk_at dksX2_netLine_0 21 rfl rfl)
theorem dX2_netLine_22 : decode cX2_netLine 22 = .ok (.iconst 1, 1) := dk_4 (dk_at dksX2_netLine_0 22 rfl rfl)
theorem dX2_netLine_23 : decode cX2_netLine 23 = .ok (.lload_n 1, 1) := dk_31 (dk_at dksX2_netLine_0 23 rfl rfl)
theorem dX2_netLine_24 : decode cX2_netLine 24 = .ok (.ldc2_w 263, 3) := dk_20 1 7 (dk_at dksX2_netLine_1 0 rfl rfl)
theorem dX2_netLine_27 : decode cX2_netLine 27 = .ok (.lcmp, 1) := dk_148 (dk_at dksX2_netLine_1 3 rfl rfl)
theorem dX2_netLine_28 : decode cX2_netLine 28 = .ok (.ifCond .ne 8, 3) := dk_154 0 8 (dk_at dksX2_netLine_1 4 rfl rfl)
theorem dX2_netLine_31 : decode cX2_netLine 31 = .ok (.bipush 6, 2) := dk_16 6 (dk_at dksX2_netLine_1 7 rfl rfl)
theorem dX2_netLine_33 : decode cX2_netLine 33 = .ok (.goto 5, 3) := dk_167 0 5 (dk_at dksX2_netLine_1 9 rfl rfl)
theorem dX2_netLine_36 : decode cX2_netLine 36 = .ok (.bipush 99, 2) := dk_16 99 (dk_at dksX2_netLine_1 12 rfl rfl)
theorem dX2_netLine_38 : decode cX2_netLine 38 = .ok (.invokevirtual 267, 3) := dk_182 1 11 (dk_at dksX2_netLine_1 14 rfl rfl)
theorem dX2_netLine_41 : decode cX2_netLine 41 = .ok (.ifCond .ne 5, 3) := dk_154 0 5 (dk_at dksX2_netLine_1 17 rfl rfl)
theorem dX2_netLine_44 : decode cX2_netLine 44 = .ok (.iconst 0, 1) := dk_3 (dk_at dksX2_netLine_1 20 rfl rfl)
theorem dX2_netLine_45 : decode cX2_netLine 45 = .ok (.ireturn, 1) := dk_172 (dk_at dksX2_netLine_1 21 rfl rfl)
theorem dX2_netLine_46 : decode cX2_netLine 46 = .ok (.lload_n 1, 1) := dk_31 (dk_at dksX2_netLine_1 22 rfl rfl)
theorem dX2_netLine_47 : decode cX2_netLine 47 = .ok (.ldc2_w 263, 3) := dk_20 1 7 (dk_at dksX2_netLine_2 0 rfl rfl)
theorem dX2_netLine_50 : decode cX2_netLine 50 = .ok (.lcmp, 1) := dk_148 (dk_at dksX2_netLine_2 3 rfl rfl)
theorem dX2_netLine_51 : decode cX2_netLine 51 = .ok (.ifCond .ne 7, 3) := dk_154 0 7 (dk_at dksX2_netLine_2 4 rfl rfl)
theorem dX2_netLine_54 : decode cX2_netLine 54 = .ok (.iconst 0, 1) := dk_3 (dk_at dksX2_netLine_2 7 rfl rfl)
theorem dX2_netLine_55 : decode cX2_netLine 55 = .ok (.goto 4, 3) := dk_167 0 4 (dk_at dksX2_netLine_2 8 rfl rfl)
theorem dX2_netLine_58 : decode cX2_netLine 58 = .ok (.iconst 1, 1) := dk_4 (dk_at dksX2_netLine_2 11 rfl rfl)
theorem dX2_netLine_59 : decode cX2_netLine 59 = .ok (.istore 4, 2) := dk_54 4 (dk_at dksX2_netLine_2 12 rfl rfl)
theorem dX2_netLine_61 : decode cX2_netLine 61 = .ok (.aload_n 0, 1) := dk_42 (dk_at dksX2_netLine_2 14 rfl rfl)
theorem dX2_netLine_62 : decode cX2_netLine 62 = .ok (.getfield 35, 3) := dk_180 0 35 (dk_at dksX2_netLine_2 15 rfl rfl)
theorem dX2_netLine_65 : decode cX2_netLine 65 = .ok (.iload 4, 2) := dk_21 4 (dk_at dksX2_netLine_2 18 rfl rfl)
theorem dX2_netLine_67 : decode cX2_netLine 67 = .ok (.aload_n 0, 1) := dk_42 (dk_at dksX2_netLine_2 20 rfl rfl)
theorem dX2_netLine_68 : decode cX2_netLine 68 = .ok (.getfield 229, 3) := dk_180 0 229 (dk_at dksX2_netLine_2 21 rfl rfl)
theorem dX2_netLine_71 : decode cX2_netLine 71 = .ok (.ifCond .eq 12, 3) := dk_153 0 12 (dk_at dksX2_netLine_3 0 rfl rfl)
theorem dX2_netLine_74 : decode cX2_netLine 74 = .ok (.aload_n 0, 1) := dk_42 (dk_at dksX2_netLine_3 3 rfl rfl)
theorem dX2_netLine_75 : decode cX2_netLine 75 = .ok (.getfield 38, 3) := dk_180 0 38 (dk_at dksX2_netLine_3 4 rfl rfl)
theorem dX2_netLine_78 : decode cX2_netLine 78 = .ok (.iconst 0, 1) := dk_3 (dk_at dksX2_netLine_3 7 rfl rfl)
theorem dX2_netLine_79 : decode cX2_netLine 79 = .ok (.iaload, 1) := dk_46 (dk_at dksX2_netLine_3 8 rfl rfl)
theorem dX2_netLine_80 : decode cX2_netLine 80 = .ok (.goto 10, 3) := dk_167 0 10 (dk_at dksX2_netLine_3 9 rfl rfl)
theorem dX2_netLine_83 : decode cX2_netLine 83 = .ok (.aload_n 0, 1) := dk_42 (dk_at dksX2_netLine_3 12 rfl rfl)
theorem dX2_netLine_84 : decode cX2_netLine 84 = .ok (.getfield 35, 3) := dk_180 0 35 (dk_at dksX2_netLine_3 13 rfl rfl)
theorem dX2_netLine_87 : decode cX2_netLine 87 = .ok (.iload 4, 2) := dk_21 4 (dk_at dksX2_netLine_3 16 rfl rfl)
theorem dX2_netLine_89 : decode cX2_netLine 89 = .ok (.iaload, 1) := dk_46 (dk_at dksX2_netLine_3 18 rfl rfl)
theorem dX2_netLine_90 : decode cX2_netLine 90 = .ok (.iastore, 1) := dk_79 (dk_at dksX2_netLine_3 19 rfl rfl)
theorem dX2_netLine_91 : decode cX2_netLine 91 = .ok (.iconst 1, 1) := dk_4 (dk_at dksX2_netLine_3 20 rfl rfl)
theorem dX2_netLine_92 : decode cX2_netLine 92 = .ok (.ireturn, 1) := dk_172 (dk_at dksX2_netLine_3 21 rfl rfl)
theorem dX2_netLine_93 : decode cX2_netLine 93 = .ok (.lload_n 1, 1) := dk_31 (dk_at dksX2_netLine_3 22 rfl rfl)
theorem dX2_netLine_94 : decode cX2_netLine 94 = .ok (.ldc2_w 270, 3) := dk_20 1 14 (dk_at dksX2_netLine_4 0 rfl rfl)
theorem dX2_netLine_97 : decode cX2_netLine 97 = .ok (.lcmp, 1) := dk_148 (dk_at dksX2_netLine_4 3 rfl rfl)
theorem dX2_netLine_98 : decode cX2_netLine 98 = .ok (.ifCond .ne 56, 3) := dk_154 0 56 (dk_at dksX2_netLine_4 4 rfl rfl)
theorem dX2_netLine_101 : decode cX2_netLine 101 = .ok (.aload_n 0, 1) := dk_42 (dk_at dksX2_netLine_4 7 rfl rfl)
theorem dX2_netLine_102 : decode cX2_netLine 102 = .ok (.invokevirtual 233, 3) := dk_182 0 233 (dk_at dksX2_netLine_4 8 rfl rfl)
theorem dX2_netLine_105 : decode cX2_netLine 105 = .ok (.aload_n 0, 1) := dk_42 (dk_at dksX2_netLine_4 11 rfl rfl)
theorem dX2_netLine_106 : decode cX2_netLine 106 = .ok (.iconst 0, 1) := dk_3 (dk_at dksX2_netLine_4 12 rfl rfl)
theorem dX2_netLine_107 : decode cX2_netLine 107 = .ok (.iconst (-1), 1) := dk_2 (dk_at dksX2_netLine_4 13 rfl rfl)
theorem dX2_netLine_108 : decode cX2_netLine 108 = .ok (.invokevirtual 272, 3) := dk_182 1 16 (dk_at dksX2_netLine_4 14 rfl rfl)
theorem dX2_netLine_111 : decode cX2_netLine 111 = .ok (.ifCond .eq 13, 3) := dk_153 0 13 (dk_at dksX2_netLine_4 17 rfl rfl)
theorem dX2_netLine_114 : decode cX2_netLine 114 = .ok (.aload_n 0, 1) := dk_42 (dk_at dksX2_netLine_4 20 rfl rfl)
theorem dX2_netLine_115 : decode cX2_netLine 115 = .ok (.iconst 1, 1) := dk_4 (dk_at dksX2_netLine_4 21 rfl rfl)
theorem dX2_netLine_116 : decode cX2_netLine 116 = .ok (.iconst 0, 1) := dk_3 (dk_at dksX2_netLine_4 22 rfl rfl)
theorem dX2_netLine_117 : decode cX2_netLine 117 = .ok (.iconst 4, 1) := dk_7 (dk_at dksX2_netLine_4 23 rfl rfl)
theorem dX2_netLine_118 : decode cX2_netLine 118 = .ok (.invokevirtual 267, 3) := dk_182 1 11 (dk_at dksX2_netLine_5 0 rfl rfl)
theorem dX2_netLine_121 : decode cX2_netLine 121 = .ok (.ifCond .ne 5, 3) := dk_154 0 5 (dk_at dksX2_netLine_5 3 rfl rfl)
theorem dX2_netLine_124 : decode cX2_netLine 124 = .ok (.iconst 0, 1) := dk_3 (dk_at dksX2_netLine_5 6 rfl rfl)
theorem dX2_netLine_125 : decode cX2_netLine 125 = .ok (.ireturn, 1) := dk_172 (dk_at dksX2_netLine_5 7 rfl rfl)
theorem dX2_netLine_126 : decode cX2_netLine 126 = .ok (.aload_n 0, 1) := dk_42 (dk_at dksX2_netLine_5 8 rfl rfl)
theorem dX2_netLine_127 : decode cX2_netLine 127 = .ok (.getfield 229, 3) := dk_180 0 229 (dk_at dksX2_netLine_5 9 rfl rfl)
theorem dX2_netLine_130 : decode cX2_netLine 130 = .ok (.ifCond .eq 22, 3) := dk_153 0 22 (dk_at dksX2_netLine_5 12 rfl rfl)
theorem dX2_netLine_133 : decode cX2_netLine 133 = .ok (.aload_n 0, 1) := dk_42 (dk_at dksX2_netLine_5 15 rfl rfl)
theorem dX2_netLine_134 : decode cX2_netLine 134 = .ok (.getfield 35, 3) := dk_180 0 35 (dk_at dksX2_netLine_5 16 rfl rfl)
theorem dX2_netLine_137 : decode cX2_netLine 137 = .ok (.iconst 5, 1) := dk_8 (dk_at dksX2_netLine_5 19 rfl rfl)
theorem dX2_netLine_138 : decode cX2_netLine 138 = .ok (.aload_n 0, 1) := dk_42 (dk_at dksX2_netLine_5 20 rfl rfl)
theorem dX2_netLine_139 : decode cX2_netLine 139 = .ok (.getfield 38, 3) := dk_180 0 38 (dk_at dksX2_netLine_5 21 rfl rfl)
theorem dX2_netLine_142 : decode cX2_netLine 142 = .ok (.iconst 0, 1) := dk_3 (dk_at dksX2_netLine_6 0 rfl rfl)
theorem dX2_netLine_143 : decode cX2_netLine 143 = .ok (.iaload, 1) := dk_46 (dk_at dksX2_netLine_6 1 rfl rfl)
theorem dX2_netLine_144 : decode cX2_netLine 144 = .ok (.iadd, 1) := dk_96 (dk_at dksX2_netLine_6 2 rfl rfl)
theorem dX2_netLine_145 : decode cX2_netLine 145 = .ok (.aload_n 0, 1) := dk_42 (dk_at dksX2_netLine_6 3 rfl rfl)
theorem dX2_netLine_146 : decode cX2_netLine 146 = .ok (.getfield 38, 3) := dk_180 0 38 (dk_at dksX2_netLine_6 4 rfl rfl)
theorem dX2_netLine_149 : decode cX2_netLine 149 = .ok (.iconst 1, 1) := dk_4 (dk_at dksX2_netLine_6 7 rfl rfl)
theorem dX2_netLine_150 : decode cX2_netLine 150 = .ok (.iaload, 1) := dk_46 (dk_at dksX2_netLine_6 8 rfl rfl)
theorem dX2_netLine_151 : decode cX2_netLine 151 = .ok (.iastore, 1) := dk_79 (dk_at dksX2_netLine_6 9 rfl rfl)
theorem dX2_netLine_152 : decode cX2_netLine 152 = .ok (.iconst 1, 1) := dk_4 (dk_at dksX2_netLine_6 10 rfl rfl)
theorem dX2_netLine_153 : decode cX2_netLine 153 = .ok (.ireturn, 1) := dk_172 (dk_at dksX2_netLine_6 11 rfl rfl)
theorem dX2_netLine_154 : decode cX2_netLine 154 = .ok (.lload_n 1, 1) := dk_31 (dk_at dksX2_netLine_6 12 rfl rfl)
theorem dX2_netLine_155 : decode cX2_netLine 155 = .ok (.ldc2_w 275, 3) := dk_20 1 19 (dk_at dksX2_netLine_6 13 rfl rfl)
theorem dX2_netLine_158 : decode cX2_netLine 158 = .ok (.lcmp, 1) := dk_148 (dk_at dksX2_netLine_6 16 rfl rfl)
theorem dX2_netLine_159 : decode cX2_netLine 159 = .ok (.ifCond .ne 56, 3) := dk_154 0 56 (dk_at dksX2_netLine_6 17 rfl rfl)
theorem dX2_netLine_162 : decode cX2_netLine 162 = .ok (.aload_n 0, 1) := dk_42 (dk_at dksX2_netLine_6 20 rfl rfl)
theorem dX2_netLine_163 : decode cX2_netLine 163 = .ok (.invokevirtual 233, 3) := dk_182 0 233 (dk_at dksX2_netLine_6 21 rfl rfl)
theorem dX2_netLine_166 : decode cX2_netLine 166 = .ok (.aload_n 0, 1) := dk_42 (dk_at dksX2_netLine_7 0 rfl rfl)
theorem dX2_netLine_167 : decode cX2_netLine 167 = .ok (.iconst 0, 1) := dk_3 (dk_at dksX2_netLine_7 1 rfl rfl)
theorem dX2_netLine_168 : decode cX2_netLine 168 = .ok (.iconst (-1), 1) := dk_2 (dk_at dksX2_netLine_7 2 rfl rfl)
theorem dX2_netLine_169 : decode cX2_netLine 169 = .ok (.invokevirtual 272, 3) := dk_182 1 16 (dk_at dksX2_netLine_7 3 rfl rfl)
theorem dX2_netLine_172 : decode cX2_netLine 172 = .ok (.ifCond .eq 28, 3) := dk_153 0 28 (dk_at dksX2_netLine_7 6 rfl rfl)
theorem dX2_netLine_175 : decode cX2_netLine 175 = .ok (.aload_n 0, 1) := dk_42 (dk_at dksX2_netLine_7 9 rfl rfl)
theorem dX2_netLine_176 : decode cX2_netLine 176 = .ok (.iconst 1, 1) := dk_4 (dk_at dksX2_netLine_7 10 rfl rfl)
theorem dX2_netLine_177 : decode cX2_netLine 177 = .ok (.aload_n 0, 1) := dk_42 (dk_at dksX2_netLine_7 11 rfl rfl)
theorem dX2_netLine_178 : decode cX2_netLine 178 = .ok (.getfield 38, 3) := dk_180 0 38 (dk_at dksX2_netLine_7 12 rfl rfl)
theorem dX2_netLine_181 : decode cX2_netLine 181 = .ok (.iconst 0, 1) := dk_3 (dk_at dksX2_netLine_7 15 rfl rfl)
theorem dX2_netLine_182 : decode cX2_netLine 182 = .ok (.iaload, 1) := dk_46 (dk_at dksX2_netLine_7 16 rfl rfl)
theorem dX2_netLine_183 : decode cX2_netLine 183 = .ok (.invokevirtual 272, 3) := dk_182 1 16 (dk_at dksX2_netLine_7 17 rfl rfl)
theorem dX2_netLine_186 : decode cX2_netLine 186 = .ok (.ifCond .eq 14, 3) := dk_153 0 14 (dk_at dksX2_netLine_7 20 rfl rfl)
theorem dX2_netLine_189 : decode cX2_netLine 189 = .ok (.aload_n 0, 1) := dk_42 (dk_at dksX2_netLine_7 23 rfl rfl)
theorem dX2_netLine_190 : decode cX2_netLine 190 = .ok (.iconst 2, 1) := dk_5 (dk_at dksX2_netLine_8 0 rfl rfl)
theorem dX2_netLine_191 : decode cX2_netLine 191 = .ok (.iconst 1, 1) := dk_4 (dk_at dksX2_netLine_8 1 rfl rfl)
theorem dX2_netLine_192 : decode cX2_netLine 192 = .ok (.bipush 9, 2) := dk_16 9 (dk_at dksX2_netLine_8 2 rfl rfl)
theorem dX2_netLine_194 : decode cX2_netLine 194 = .ok (.invokevirtual 267, 3) := dk_182 1 11 (dk_at dksX2_netLine_8 4 rfl rfl)
theorem dX2_netLine_197 : decode cX2_netLine 197 = .ok (.ifCond .ne 5, 3) := dk_154 0 5 (dk_at dksX2_netLine_8 7 rfl rfl)
theorem dX2_netLine_200 : decode cX2_netLine 200 = .ok (.iconst 0, 1) := dk_3 (dk_at dksX2_netLine_8 10 rfl rfl)
theorem dX2_netLine_201 : decode cX2_netLine 201 = .ok (.ireturn, 1) := dk_172 (dk_at dksX2_netLine_8 11 rfl rfl)
theorem dX2_netLine_202 : decode cX2_netLine 202 = .ok (.aload_n 0, 1) := dk_42 (dk_at dksX2_netLine_8 12 rfl rfl)
theorem dX2_netLine_203 : decode cX2_netLine 203 = .ok (.getfield 229, 3) := dk_180 0 229 (dk_at dksX2_netLine_8 13 rfl rfl)
theorem dX2_netLine_206 : decode cX2_netLine 206 = .ok (.ifCond .eq 7, 3) := dk_153 0 7 (dk_at dksX2_netLine_8 16 rfl rfl)
theorem dX2_netLine_209 : decode cX2_netLine 209 = .ok (.aload_n 0, 1) := dk_42 (dk_at dksX2_netLine_8 19 rfl rfl)
theorem dX2_netLine_210 : decode cX2_netLine 210 = .ok (.invokevirtual 277, 3) := dk_182 1 21 (dk_at dksX2_netLine_8 20 rfl rfl)
theorem dX2_netLine_213 : decode cX2_netLine 213 = .ok (.iconst 1, 1) := dk_4 (dk_at dksX2_netLine_8 23 rfl rfl)
theorem dX2_netLine_214 : decode cX2_netLine 214 = .ok (.ireturn, 1) := dk_172 (dk_at dksX2_netLine_9 0 rfl rfl)
theorem dX2_netLine_215 : decode cX2_netLine 215 = .ok (.lload_n 1, 1) := dk_31 (dk_at dksX2_netLine_9 1 rfl rfl)
theorem dX2_netLine_216 : decode cX2_netLine 216 = .ok (.ldc2_w 280, 3) := dk_20 1 24 (dk_at dksX2_netLine_9 2 rfl rfl)
theorem dX2_netLine_219 : decode cX2_netLine 219 = .ok (.lcmp, 1) := dk_148 (dk_at dksX2_netLine_9 5 rfl rfl)
theorem dX2_netLine_220 : decode cX2_netLine 220 = .ok (.ifCond .eq 16, 3) := dk_153 0 16 (dk_at dksX2_netLine_9 6 rfl rfl)
theorem dX2_netLine_223 : decode cX2_netLine 223 = .ok (.lload_n 1, 1) := dk_31 (dk_at dksX2_netLine_9 9 rfl rfl)
theorem dX2_netLine_224 : decode cX2_netLine 224 = .ok (.ldc2_w 282, 3) := dk_20 1 26 (dk_at dksX2_netLine_9 10 rfl rfl)
theorem dX2_netLine_227 : decode cX2_netLine 227 = .ok (.lcmp, 1) := dk_148 (dk_at dksX2_netLine_9 13 rfl rfl)
theorem dX2_netLine_228 : decode cX2_netLine 228 = .ok (.ifCond .eq 8, 3) := dk_153 0 8 (dk_at dksX2_netLine_9 14 rfl rfl)
theorem dX2_netLine_231 : decode cX2_netLine 231 = .ok (.aload_n 0, 1) := dk_42 (dk_at dksX2_netLine_9 17 rfl rfl)
theorem dX2_netLine_232 : decode cX2_netLine 232 = .ok (.invokevirtual 221, 3) := dk_182 0 221 (dk_at dksX2_netLine_9 18 rfl rfl)
theorem dX2_netLine_235 : decode cX2_netLine 235 = .ok (.ireturn, 1) := dk_172 (dk_at dksX2_netLine_9 21 rfl rfl)
theorem dX2_netLine_236 : decode cX2_netLine 236 = .ok (.aload_n 0, 1) := dk_42 (dk_at dksX2_netLine_9 22 rfl rfl)
theorem dX2_netLine_237 : decode cX2_netLine 237 = .ok (.lload_n 1, 1) := dk_31 (dk_at dksX2_netLine_9 23 rfl rfl)
theorem dX2_netLine_238 : decode cX2_netLine 238 = .ok (.ldc2_w 280, 3) := dk_20 1 24 (dk_at dksX2_netLine_10 0 rfl rfl)
theorem dX2_netLine_241 : decode cX2_netLine 241 = .ok (.lcmp, 1) := dk_148 (dk_at dksX2_netLine_10 3 rfl rfl)
theorem dX2_netLine_242 : decode cX2_netLine 242 = .ok (.ifCond .ne 7, 3) := dk_154 0 7 (dk_at dksX2_netLine_10 4 rfl rfl)
theorem dX2_netLine_245 : decode cX2_netLine 245 = .ok (.iconst 3, 1) := dk_6 (dk_at dksX2_netLine_10 7 rfl rfl)
theorem dX2_netLine_246 : decode cX2_netLine 246 = .ok (.goto 4, 3) := dk_167 0 4 (dk_at dksX2_netLine_10 8 rfl rfl)
theorem dX2_netLine_249 : decode cX2_netLine 249 = .ok (.iconst 4, 1) := dk_7 (dk_at dksX2_netLine_10 11 rfl rfl)
theorem dX2_netLine_250 : decode cX2_netLine 250 = .ok (.lload_n 1, 1) := dk_31 (dk_at dksX2_netLine_10 12 rfl rfl)
theorem dX2_netLine_251 : decode cX2_netLine 251 = .ok (.ldc2_w 280, 3) := dk_20 1 24 (dk_at dksX2_netLine_10 13 rfl rfl)
theorem dX2_netLine_254 : decode cX2_netLine 254 = .ok (.lcmp, 1) := dk_148 (dk_at dksX2_netLine_10 16 rfl rfl)
theorem dX2_netLine_255 : decode cX2_netLine 255 = .ok (.ifCond .ne 8, 3) := dk_154 0 8 (dk_at dksX2_netLine_10 17 rfl rfl)
theorem dX2_netLine_258 : decode cX2_netLine 258 = .ok (.bipush 12, 2) := dk_16 12 (dk_at dksX2_netLine_10 20 rfl rfl)
theorem dX2_netLine_260 : decode cX2_netLine 260 = .ok (.goto 5, 3) := dk_167 0 5 (dk_at dksX2_netLine_11 0 rfl rfl)
theorem dX2_netLine_263 : decode cX2_netLine 263 = .ok (.bipush 6, 2) := dk_16 6 (dk_at dksX2_netLine_11 3 rfl rfl)
theorem dX2_netLine_265 : decode cX2_netLine 265 = .ok (.iload_n 3, 1) := dk_29 (dk_at dksX2_netLine_11 5 rfl rfl)
theorem dX2_netLine_266 : decode cX2_netLine 266 = .ok (.invokevirtual 284, 3) := dk_182 1 28 (dk_at dksX2_netLine_11 6 rfl rfl)
theorem dX2_netLine_269 : decode cX2_netLine 269 = .ok (.aload_n 0, 1) := dk_42 (dk_at dksX2_netLine_11 9 rfl rfl)
theorem dX2_netLine_270 : decode cX2_netLine 270 = .ok (.invokevirtual 233, 3) := dk_182 0 233 (dk_at dksX2_netLine_11 10 rfl rfl)
theorem dX2_netLine_273 : decode cX2_netLine 273 = .ok (.aload_n 0, 1) := dk_42 (dk_at dksX2_netLine_11 13 rfl rfl)
theorem dX2_netLine_274 : decode cX2_netLine 274 = .ok (.iconst 0, 1) := dk_3 (dk_at dksX2_netLine_11 14 rfl rfl)
theorem dX2_netLine_275 : decode cX2_netLine 275 = .ok (.iconst (-1), 1) := dk_2 (dk_at dksX2_netLine_11 15 rfl rfl)
theorem dX2_netLine_276 : decode cX2_netLine 276 = .ok (.invokevirtual 272, 3) := dk_182 1 16 (dk_at dksX2_netLine_11 16 rfl rfl)
theorem dX2_netLine_279 : decode cX2_netLine 279 = .ok (.ifCond .eq 56, 3) := dk_153 0 56 (dk_at dksX2_netLine_11 19 rfl rfl)
theorem dX2_netLine_282 : decode cX2_netLine 282 = .ok (.aload_n 0, 1) := dk_42 (dk_at dksX2_netLine_11 22 rfl rfl)
theorem dX2_netLine_283 : decode cX2_netLine 283 = .ok (.iconst 1, 1) := dk_4 (dk_at dksX2_netLine_11 23 rfl rfl)
theorem dX2_netLine_284 : decode cX2_netLine 284 = .ok (.invokevirtual 288, 3) := dk_182 1 32 (dk_at dksX2_netLine_12 0 rfl rfl)
theorem dX2_netLine_287 : decode cX2_netLine 287 = .ok (.ifCond .eq 48, 3) := dk_153 0 48 (dk_at dksX2_netLine_12 3 rfl rfl)
theorem dX2_netLine_290 : decode cX2_netLine 290 = .ok (.lload_n 1, 1) := dk_31 (dk_at dksX2_netLine_12 6 rfl rfl)
theorem dX2_netLine_291 : decode cX2_netLine 291 = .ok (.ldc2_w 280, 3) := dk_20 1 24 (dk_at dksX2_netLine_12 7 rfl rfl)
theorem dX2_netLine_294 : decode cX2_netLine 294 = .ok (.lcmp, 1) := dk_148 (dk_at dksX2_netLine_12 10 rfl rfl)
theorem dX2_netLine_295 : decode cX2_netLine 295 = .ok (.ifCond .ne 17, 3) := dk_154 0 17 (dk_at dksX2_netLine_12 11 rfl rfl)
theorem dX2_netLine_298 : decode cX2_netLine 298 = .ok (.aload_n 0, 1) := dk_42 (dk_at dksX2_netLine_12 14 rfl rfl)
theorem dX2_netLine_299 : decode cX2_netLine 299 = .ok (.iconst 2, 1) := dk_5 (dk_at dksX2_netLine_12 15 rfl rfl)
theorem dX2_netLine_300 : decode cX2_netLine 300 = .ok (.aload_n 0, 1) := dk_42 (dk_at dksX2_netLine_12 16 rfl rfl)
theorem dX2_netLine_301 : decode cX2_netLine 301 = .ok (.getfield 38, 3) := dk_180 0 38 (dk_at dksX2_netLine_12 17 rfl rfl)
theorem dX2_netLine_304 : decode cX2_netLine 304 = .ok (.iconst 0, 1) := dk_3 (dk_at dksX2_netLine_12 20 rfl rfl)
theorem dX2_netLine_305 : decode cX2_netLine 305 = .ok (.iaload, 1) := dk_46 (dk_at dksX2_netLine_12 21 rfl rfl)
theorem dX2_netLine_306 : decode cX2_netLine 306 = .ok (.invokevirtual 272, 3) := dk_182 1 16 (dk_at dksX2_netLine_13 0 rfl rfl)
theorem dX2_netLine_309 : decode cX2_netLine 309 = .ok (.ifCond .eq 26, 3) := dk_153 0 26 (dk_at dksX2_netLine_13 3 rfl rfl)
theorem dX2_netLine_312 : decode cX2_netLine 312 = .ok (.aload_n 0, 1) := dk_42 (dk_at dksX2_netLine_13 6 rfl rfl)
theorem dX2_netLine_313 : decode cX2_netLine 313 = .ok (.lload_n 1, 1) := dk_31 (dk_at dksX2_netLine_13 7 rfl rfl)
theorem dX2_netLine_314 : decode cX2_netLine 314 = .ok (.ldc2_w 280, 3) := dk_20 1 24 (dk_at dksX2_netLine_13 8 rfl rfl)
theorem dX2_netLine_317 : decode cX2_netLine 317 = .ok (.lcmp, 1) := dk_148 (dk_at dksX2_netLine_13 11 rfl rfl)
theorem dX2_netLine_318 : decode cX2_netLine 318 = .ok (.ifCond .ne 7, 3) := dk_154 0 7 (dk_at dksX2_netLine_13 12 rfl rfl)
theorem dX2_netLine_321 : decode cX2_netLine 321 = .ok (.iconst 3, 1) := dk_6 (dk_at dksX2_netLine_13 15 rfl rfl)
theorem dX2_netLine_322 : decode cX2_netLine 322 = .ok (.goto 4, 3) := dk_167 0 4 (dk_at dksX2_netLine_13 16 rfl rfl)
theorem dX2_netLine_325 : decode cX2_netLine 325 = .ok (.iconst 2, 1) := dk_5 (dk_at dksX2_netLine_13 19 rfl rfl)
theorem dX2_netLine_326 : decode cX2_netLine 326 = .ok (.iconst 0, 1) := dk_3 (dk_at dksX2_netLine_13 20 rfl rfl)
theorem dX2_netLine_327 : decode cX2_netLine 327 = .ok (.bipush 99, 2) := dk_16 99 (dk_at dksX2_netLine_13 21 rfl rfl)
theorem dX2_netLine_329 : decode cX2_netLine 329 = .ok (.invokevirtual 267, 3) := dk_182 1 11 (dk_at dksX2_netLine_14 0 rfl rfl)
theorem dX2_netLine_332 : decode cX2_netLine 332 = .ok (.ifCond .ne 5, 3) := dk_154 0 5 (dk_at dksX2_netLine_14 3 rfl rfl)
theorem dX2_netLine_335 : decode cX2_netLine 335 = .ok (.iconst 0, 1) := dk_3 (dk_at dksX2_netLine_14 6 rfl rfl)
theorem dX2_netLine_336 : decode cX2_netLine 336 = .ok (.ireturn, 1) := dk_172 (dk_at dksX2_netLine_14 7 rfl rfl)
theorem dX2_netLine_337 : decode cX2_netLine 337 = .ok (.lload_n 1, 1) := dk_31 (dk_at dksX2_netLine_14 8 rfl rfl)
theorem dX2_netLine_338 : decode cX2_netLine 338 = .ok (.ldc2_w 280, 3) := dk_20 1 24 (dk_at dksX2_netLine_14 9 rfl rfl)
theorem dX2_netLine_341 : decode cX2_netLine 341 = .ok (.lcmp, 1) := dk_148 (dk_at dksX2_netLine_14 12 rfl rfl)
theorem dX2_netLine_342 : decode cX2_netLine 342 = .ok (.ifCond .ne 16, 3) := dk_154 0 16 (dk_at dksX2_netLine_14 13 rfl rfl)
theorem dX2_netLine_345 : decode cX2_netLine 345 = .ok (.aload_n 0, 1) := dk_42 (dk_at dksX2_netLine_14 16 rfl rfl)
theorem dX2_netLine_346 : decode cX2_netLine 346 = .ok (.iconst 3, 1) := dk_6 (dk_at dksX2_netLine_14 17 rfl rfl)
theorem dX2_netLine_347 : decode cX2_netLine 347 = .ok (.bipush 56, 2) := dk_16 56 (dk_at dksX2_netLine_14 18 rfl rfl)
theorem dX2_netLine_349 : decode cX2_netLine 349 = .ok (.iconst 4, 1) := dk_7 (dk_at dksX2_netLine_14 20 rfl rfl)
theorem dX2_netLine_350 : decode cX2_netLine 350 = .ok (.bipush 12, 2) := dk_16 12 (dk_at dksX2_netLine_14 21 rfl rfl)
theorem dX2_netLine_352 : decode cX2_netLine 352 = .ok (.invokevirtual 259, 3) := dk_182 1 3 (dk_at dksX2_netLine_15 0 rfl rfl)
theorem dX2_netLine_355 : decode cX2_netLine 355 = .ok (.goto 13, 3) := dk_167 0 13 (dk_at dksX2_netLine_15 3 rfl rfl)
theorem dX2_netLine_358 : decode cX2_netLine 358 = .ok (.aload_n 0, 1) := dk_42 (dk_at dksX2_netLine_15 6 rfl rfl)
theorem dX2_netLine_359 : decode cX2_netLine 359 = .ok (.iconst 4, 1) := dk_7 (dk_at dksX2_netLine_15 7 rfl rfl)
theorem dX2_netLine_360 : decode cX2_netLine 360 = .ok (.bipush 104, 2) := dk_16 104 (dk_at dksX2_netLine_15 8 rfl rfl)
theorem dX2_netLine_362 : decode cX2_netLine 362 = .ok (.iconst 3, 1) := dk_6 (dk_at dksX2_netLine_15 10 rfl rfl)
theorem dX2_netLine_363 : decode cX2_netLine 363 = .ok (.bipush 6, 2) := dk_16 6 (dk_at dksX2_netLine_15 11 rfl rfl)
theorem dX2_netLine_365 : decode cX2_netLine 365 = .ok (.invokevirtual 259, 3) := dk_182 1 3 (dk_at dksX2_netLine_15 13 rfl rfl)
theorem dX2_netLine_368 : decode cX2_netLine 368 = .ok (.iconst 1, 1) := dk_4 (dk_at dksX2_netLine_15 16 rfl rfl)
theorem dX2_netLine_369 : decode cX2_netLine 369 = .ok (.ireturn, 1) := dk_172 (dk_at dksX2_netLine_15 17 rfl rfl)
abbrev cX2_take : ByteArray := prog_25_method_19_code
def yX2_take : MethodName := ⟨RX2, "take", "(III)Z"⟩
def dkwX2_take_0 : List UInt8 := [42, 27, 28, 29, 2, 182, 0, 236, 172]
abbrev dktX2_take_0 : List UInt8 := dkwX2_take_0 ++ []
theorem dksX2_take_0 : cX2_take.data.toList.drop 0 = dktX2_take_0 := by decide +kernel
theorem dX2_take_0 : decode cX2_take 0 = .ok (.aload_n 0, 1) := dk_42 (dk_at dksX2_take_0 0 rfl rfl)
theorem dX2_take_1 : decode cX2_take 1 = .ok (.iload_n 1, 1) := dk_27 (dk_at dksX2_take_0 1 rfl rfl)
theorem dX2_take_2 : decode cX2_take 2 = .ok (.iload_n 2, 1) := dk_28 (dk_at dksX2_take_0 2 rfl rfl)
theorem dX2_take_3 : decode cX2_take 3 = .ok (.iload_n 3, 1) := dk_29 (dk_at dksX2_take_0 3 rfl rfl)
theorem dX2_take_4 : decode cX2_take 4 = .ok (.iconst (-1), 1) := dk_2 (dk_at dksX2_take_0 4 rfl rfl)
theorem dX2_take_5 : decode cX2_take 5 = .ok (.invokevirtual 236, 3) := dk_182 0 236 (dk_at dksX2_take_0 5 rfl rfl)
theorem dX2_take_8 : decode cX2_take 8 = .ok (.ireturn, 1) := dk_172 (dk_at dksX2_take_0 8 rfl rfl)
abbrev cX2_takeBut : ByteArray := prog_25_method_18_code
def yX2_takeBut : MethodName := ⟨RX2, "takeBut", "(IIII)Z"⟩
def dkwX2_takeBut_2 : List UInt8 := [180, 0, 199, 182, 0, 225, 42, 3, 181, 0, 229, 42, 182, 0, 233, 4, 172]
abbrev dktX2_takeBut_2 : List UInt8 := dkwX2_takeBut_2 ++ []
def dkwX2_takeBut_1 : List UInt8 := [180, 0, 209, 28, 29, 184, 0, 181, 153, 0, 12, 42, 180, 0, 209, 21, 4, 160, 0, 17, 42, 5, 42]
abbrev dktX2_takeBut_1 : List UInt8 := dkwX2_takeBut_1 ++ dktX2_takeBut_2
def dkwX2_takeBut_0 : List UInt8 := [42, 180, 0, 206, 6, 159, 0, 8, 42, 182, 0, 221, 172, 42, 180, 0, 38, 27, 42, 180, 0, 209, 79, 42]
abbrev dktX2_takeBut_0 : List UInt8 := dkwX2_takeBut_0 ++ dktX2_takeBut_1
theorem dksX2_takeBut_0 : cX2_takeBut.data.toList.drop 0 = dktX2_takeBut_0 := by decide +kernel
theorem dksX2_takeBut_1 : cX2_takeBut.data.toList.drop 24 = dktX2_takeBut_1 := dk_seg dksX2_takeBut_0 24 rfl rfl
theorem dksX2_takeBut_2 : cX2_takeBut.data.toList.drop 47 = dktX2_takeBut_2 := dk_seg dksX2_takeBut_1 23 rfl rfl
theorem dX2_takeBut_0 : decode cX2_takeBut 0 = .ok (.aload_n 0, 1) := dk_42 (dk_at dksX2_takeBut_0 0 rfl rfl)
theorem dX2_takeBut_1 : decode cX2_takeBut 1 = .ok (.getfield 206, 3) := dk_180 0 206 (dk_at dksX2_takeBut_0 1 rfl rfl)
theorem dX2_takeBut_4 : decode cX2_takeBut 4 = .ok (.iconst 3, 1) := dk_6 (dk_at dksX2_takeBut_0 4 rfl rfl)
theorem dX2_takeBut_5 : decode cX2_takeBut 5 = .ok (.if_icmp .eq 8, 3) := dk_159 0 8 (dk_at dksX2_takeBut_0 5 rfl rfl)
theorem dX2_takeBut_8 : decode cX2_takeBut 8 = .ok (.aload_n 0, 1) := dk_42 (dk_at dksX2_takeBut_0 8 rfl rfl)
theorem dX2_takeBut_9 : decode cX2_takeBut 9 = .ok (.invokevirtual 221, 3) := dk_182 0 221 (dk_at dksX2_takeBut_0 9 rfl rfl)
theorem dX2_takeBut_12 : decode cX2_takeBut 12 = .ok (.ireturn, 1) := dk_172 (dk_at dksX2_takeBut_0 12 rfl rfl)
theorem dX2_takeBut_13 : decode cX2_takeBut 13 = .ok (.aload_n 0, 1) := dk_42 (dk_at dksX2_takeBut_0 13 rfl rfl)
theorem dX2_takeBut_14 : decode cX2_takeBut 14 = .ok (.getfield 38, 3) := dk_180 0 38 (dk_at dksX2_takeBut_0 14 rfl rfl)
theorem dX2_takeBut_17 : decode cX2_takeBut 17 = .ok (.iload_n 1, 1) := dk_27 (dk_at dksX2_takeBut_0 17 rfl rfl)
theorem dX2_takeBut_18 : decode cX2_takeBut 18 = .ok (.aload_n 0, 1) := dk_42 (dk_at dksX2_takeBut_0 18 rfl rfl)
theorem dX2_takeBut_19 : decode cX2_takeBut 19 = .ok (.getfield 209, 3) := dk_180 0 209 (dk_at dksX2_takeBut_0 19 rfl rfl)
theorem dX2_takeBut_22 : decode cX2_takeBut 22 = .ok (.iastore, 1) := dk_79 (dk_at dksX2_takeBut_0 22 rfl rfl)
theorem dX2_takeBut_23 : decode cX2_takeBut 23 = .ok (.aload_n 0, 1) := dk_42 (dk_at dksX2_takeBut_0 23 rfl rfl)
theorem dX2_takeBut_24 : decode cX2_takeBut 24 = .ok (.getfield 209, 3) := dk_180 0 209 (dk_at dksX2_takeBut_1 0 rfl rfl)
theorem dX2_takeBut_27 : decode cX2_takeBut 27 = .ok (.iload_n 2, 1) := dk_28 (dk_at dksX2_takeBut_1 3 rfl rfl)
theorem dX2_takeBut_28 : decode cX2_takeBut 28 = .ok (.iload_n 3, 1) := dk_29 (dk_at dksX2_takeBut_1 4 rfl rfl)
theorem dX2_takeBut_29 : decode cX2_takeBut 29 = .ok (.invokestatic 181, 3) := dk_184 0 181 (dk_at dksX2_takeBut_1 5 rfl rfl)
theorem dX2_takeBut_32 : decode cX2_takeBut 32 = .ok (.ifCond .eq 12, 3) := dk_153 0 12 (dk_at dksX2_takeBut_1 8 rfl rfl)
theorem dX2_takeBut_35 : decode cX2_takeBut 35 = .ok (.aload_n 0, 1) := dk_42 (dk_at dksX2_takeBut_1 11 rfl rfl)
theorem dX2_takeBut_36 : decode cX2_takeBut 36 = .ok (.getfield 209, 3) := dk_180 0 209 (dk_at dksX2_takeBut_1 12 rfl rfl)
theorem dX2_takeBut_39 : decode cX2_takeBut 39 = .ok (.iload 4, 2) := dk_21 4 (dk_at dksX2_takeBut_1 15 rfl rfl)
theorem dX2_takeBut_41 : decode cX2_takeBut 41 = .ok (.if_icmp .ne 17, 3) := dk_160 0 17 (dk_at dksX2_takeBut_1 17 rfl rfl)
theorem dX2_takeBut_44 : decode cX2_takeBut 44 = .ok (.aload_n 0, 1) := dk_42 (dk_at dksX2_takeBut_1 20 rfl rfl)
theorem dX2_takeBut_45 : decode cX2_takeBut 45 = .ok (.iconst 2, 1) := dk_5 (dk_at dksX2_takeBut_1 21 rfl rfl)
theorem dX2_takeBut_46 : decode cX2_takeBut 46 = .ok (.aload_n 0, 1) := dk_42 (dk_at dksX2_takeBut_1 22 rfl rfl)
theorem dX2_takeBut_47 : decode cX2_takeBut 47 = .ok (.getfield 199, 3) := dk_180 0 199 (dk_at dksX2_takeBut_2 0 rfl rfl)
theorem dX2_takeBut_50 : decode cX2_takeBut 50 = .ok (.invokevirtual 225, 3) := dk_182 0 225 (dk_at dksX2_takeBut_2 3 rfl rfl)
theorem dX2_takeBut_53 : decode cX2_takeBut 53 = .ok (.aload_n 0, 1) := dk_42 (dk_at dksX2_takeBut_2 6 rfl rfl)
theorem dX2_takeBut_54 : decode cX2_takeBut 54 = .ok (.iconst 0, 1) := dk_3 (dk_at dksX2_takeBut_2 7 rfl rfl)
theorem dX2_takeBut_55 : decode cX2_takeBut 55 = .ok (.putfield 229, 3) := dk_181 0 229 (dk_at dksX2_takeBut_2 8 rfl rfl)
theorem dX2_takeBut_58 : decode cX2_takeBut 58 = .ok (.aload_n 0, 1) := dk_42 (dk_at dksX2_takeBut_2 11 rfl rfl)
theorem dX2_takeBut_59 : decode cX2_takeBut 59 = .ok (.invokevirtual 233, 3) := dk_182 0 233 (dk_at dksX2_takeBut_2 12 rfl rfl)
theorem dX2_takeBut_62 : decode cX2_takeBut 62 = .ok (.iconst 1, 1) := dk_4 (dk_at dksX2_takeBut_2 15 rfl rfl)
theorem dX2_takeBut_63 : decode cX2_takeBut 63 = .ok (.ireturn, 1) := dk_172 (dk_at dksX2_takeBut_2 16 rfl rfl)
abbrev cX2_fails : ByteArray := prog_25_method_16_code
def yX2_fails : MethodName := ⟨RX2, "fails", "()Z"⟩
def dkwX2_fails_0 : List UInt8 := [42, 42, 180, 0, 199, 181, 0, 212, 3, 172]
abbrev dktX2_fails_0 : List UInt8 := dkwX2_fails_0 ++ []
theorem dksX2_fails_0 : cX2_fails.data.toList.drop 0 = dktX2_fails_0 := by decide +kernel
theorem dX2_fails_0 : decode cX2_fails 0 = .ok (.aload_n 0, 1) := dk_42 (dk_at dksX2_fails_0 0 rfl rfl)
theorem dX2_fails_1 : decode cX2_fails 1 = .ok (.aload_n 0, 1) := dk_42 (dk_at dksX2_fails_0 1 rfl rfl)
theorem dX2_fails_2 : decode cX2_fails 2 = .ok (.getfield 199, 3) := dk_180 0 199 (dk_at dksX2_fails_0 2 rfl rfl)
theorem dX2_fails_5 : decode cX2_fails 5 = .ok (.putfield 212, 3) := dk_181 0 212 (dk_at dksX2_fails_0 5 rfl rfl)
theorem dX2_fails_8 : decode cX2_fails 8 = .ok (.iconst 0, 1) := dk_3 (dk_at dksX2_fails_0 8 rfl rfl)
theorem dX2_fails_9 : decode cX2_fails 9 = .ok (.ireturn, 1) := dk_172 (dk_at dksX2_fails_0 9 rfl rfl)
abbrev cX2_addsFault : ByteArray := prog_25_method_17_code
def yX2_addsFault : MethodName := ⟨RX2, "addsFault", "(II)V"⟩
def dkwX2_addsFault_1 : List UInt8 := [42, 180, 0, 215, 162, 0, 13, 42, 27, 181, 0, 215, 42, 28, 181, 0, 218, 177]
abbrev dktX2_addsFault_1 : List UInt8 := dkwX2_addsFault_1 ++ []
def dkwX2_addsFault_0 : List UInt8 := [42, 180, 0, 215, 153, 0, 27, 28, 42, 180, 0, 218, 161, 0, 19, 28, 42, 180, 0, 218, 160, 0, 21, 27]
abbrev dktX2_addsFault_0 : List UInt8 := dkwX2_addsFault_0 ++ dktX2_addsFault_1
theorem dksX2_addsFault_0 : cX2_addsFault.data.toList.drop 0 = dktX2_addsFault_0 := by decide +kernel
theorem dksX2_addsFault_1 : cX2_addsFault.data.toList.drop 24 = dktX2_addsFault_1 := dk_seg dksX2_addsFault_0 24 rfl rfl
theorem dX2_addsFault_0 : decode cX2_addsFault 0 = .ok (.aload_n 0, 1) := dk_42 (dk_at dksX2_addsFault_0 0 rfl rfl)
theorem dX2_addsFault_1 : decode cX2_addsFault 1 = .ok (.getfield 215, 3) := dk_180 0 215 (dk_at dksX2_addsFault_0 1 rfl rfl)
theorem dX2_addsFault_4 : decode cX2_addsFault 4 = .ok (.ifCond .eq 27, 3) := dk_153 0 27 (dk_at dksX2_addsFault_0 4 rfl rfl)
theorem dX2_addsFault_7 : decode cX2_addsFault 7 = .ok (.iload_n 2, 1) := dk_28 (dk_at dksX2_addsFault_0 7 rfl rfl)
theorem dX2_addsFault_8 : decode cX2_addsFault 8 = .ok (.aload_n 0, 1) := dk_42 (dk_at dksX2_addsFault_0 8 rfl rfl)
theorem dX2_addsFault_9 : decode cX2_addsFault 9 = .ok (.getfield 218, 3) := dk_180 0 218 (dk_at dksX2_addsFault_0 9 rfl rfl)
theorem dX2_addsFault_12 : decode cX2_addsFault 12 = .ok (.if_icmp .lt 19, 3) := dk_161 0 19 (dk_at dksX2_addsFault_0 12 rfl rfl)
theorem dX2_addsFault_15 : decode cX2_addsFault 15 = .ok (.iload_n 2, 1) := dk_28 (dk_at dksX2_addsFault_0 15 rfl rfl)
theorem dX2_addsFault_16 : decode cX2_addsFault 16 = .ok (.aload_n 0, 1) := dk_42 (dk_at dksX2_addsFault_0 16 rfl rfl)
theorem dX2_addsFault_17 : decode cX2_addsFault 17 = .ok (.getfield 218, 3) := dk_180 0 218 (dk_at dksX2_addsFault_0 17 rfl rfl)
theorem dX2_addsFault_20 : decode cX2_addsFault 20 = .ok (.if_icmp .ne 21, 3) := dk_160 0 21 (dk_at dksX2_addsFault_0 20 rfl rfl)
theorem dX2_addsFault_23 : decode cX2_addsFault 23 = .ok (.iload_n 1, 1) := dk_27 (dk_at dksX2_addsFault_0 23 rfl rfl)
theorem dX2_addsFault_24 : decode cX2_addsFault 24 = .ok (.aload_n 0, 1) := dk_42 (dk_at dksX2_addsFault_1 0 rfl rfl)
theorem dX2_addsFault_25 : decode cX2_addsFault 25 = .ok (.getfield 215, 3) := dk_180 0 215 (dk_at dksX2_addsFault_1 1 rfl rfl)
theorem dX2_addsFault_28 : decode cX2_addsFault 28 = .ok (.if_icmp .ge 13, 3) := dk_162 0 13 (dk_at dksX2_addsFault_1 4 rfl rfl)
theorem dX2_addsFault_31 : decode cX2_addsFault 31 = .ok (.aload_n 0, 1) := dk_42 (dk_at dksX2_addsFault_1 7 rfl rfl)
theorem dX2_addsFault_32 : decode cX2_addsFault 32 = .ok (.iload_n 1, 1) := dk_27 (dk_at dksX2_addsFault_1 8 rfl rfl)
theorem dX2_addsFault_33 : decode cX2_addsFault 33 = .ok (.putfield 215, 3) := dk_181 0 215 (dk_at dksX2_addsFault_1 9 rfl rfl)
theorem dX2_addsFault_36 : decode cX2_addsFault 36 = .ok (.aload_n 0, 1) := dk_42 (dk_at dksX2_addsFault_1 12 rfl rfl)
theorem dX2_addsFault_37 : decode cX2_addsFault 37 = .ok (.iload_n 2, 1) := dk_28 (dk_at dksX2_addsFault_1 13 rfl rfl)
theorem dX2_addsFault_38 : decode cX2_addsFault 38 = .ok (.putfield 218, 3) := dk_181 0 218 (dk_at dksX2_addsFault_1 14 rfl rfl)
theorem dX2_addsFault_41 : decode cX2_addsFault 41 = .ok (.return_, 1) := dk_177 (dk_at dksX2_addsFault_1 17 rfl rfl)
abbrev cX2_takeNode : ByteArray := prog_25_method_20_code
def yX2_takeNode : MethodName := ⟨RX2, "takeNode", "(II)Z"⟩
def dkwX2_takeNode_1 : List UInt8 := [184, 0, 243, 181, 0, 240, 4, 172]
abbrev dktX2_takeNode_1 : List UInt8 := dkwX2_takeNode_1 ++ []
def dkwX2_takeNode_0 : List UInt8 := [42, 27, 3, 8, 28, 182, 0, 236, 154, 0, 5, 3, 172, 42, 42, 180, 0, 240, 42, 180, 0, 38, 27, 46]
abbrev dktX2_takeNode_0 : List UInt8 := dkwX2_takeNode_0 ++ dktX2_takeNode_1
theorem dksX2_takeNode_0 : cX2_takeNode.data.toList.drop 0 = dktX2_takeNode_0 := by decide +kernel
theorem dksX2_takeNode_1 : cX2_takeNode.data.toList.drop 24 = dktX2_takeNode_1 := dk_seg dksX2_takeNode_0 24 rfl rfl
theorem dX2_takeNode_0 : decode cX2_takeNode 0 = .ok (.aload_n 0, 1) := dk_42 (dk_at dksX2_takeNode_0 0 rfl rfl)
theorem dX2_takeNode_1 : decode cX2_takeNode 1 = .ok (.iload_n 1, 1) := dk_27 (dk_at dksX2_takeNode_0 1 rfl rfl)
theorem dX2_takeNode_2 : decode cX2_takeNode 2 = .ok (.iconst 0, 1) := dk_3 (dk_at dksX2_takeNode_0 2 rfl rfl)
theorem dX2_takeNode_3 : decode cX2_takeNode 3 = .ok (.iconst 5, 1) := dk_8 (dk_at dksX2_takeNode_0 3 rfl rfl)
theorem dX2_takeNode_4 : decode cX2_takeNode 4 = .ok (.iload_n 2, 1) := dk_28 (dk_at dksX2_takeNode_0 4 rfl rfl)
theorem dX2_takeNode_5 : decode cX2_takeNode 5 = .ok (.invokevirtual 236, 3) := dk_182 0 236 (dk_at dksX2_takeNode_0 5 rfl rfl)
theorem dX2_takeNode_8 : decode cX2_takeNode 8 = .ok (.ifCond .ne 5, 3) := dk_154 0 5 (dk_at dksX2_takeNode_0 8 rfl rfl)
theorem dX2_takeNode_11 : decode cX2_takeNode 11 = .ok (.iconst 0, 1) := dk_3 (dk_at dksX2_takeNode_0 11 rfl rfl)
theorem dX2_takeNode_12 : decode cX2_takeNode 12 = .ok (.ireturn, 1) := dk_172 (dk_at dksX2_takeNode_0 12 rfl rfl)
theorem dX2_takeNode_13 : decode cX2_takeNode 13 = .ok (.aload_n 0, 1) := dk_42 (dk_at dksX2_takeNode_0 13 rfl rfl)
theorem dX2_takeNode_14 : decode cX2_takeNode 14 = .ok (.aload_n 0, 1) := dk_42 (dk_at dksX2_takeNode_0 14 rfl rfl)
theorem dX2_takeNode_15 : decode cX2_takeNode 15 = .ok (.getfield 240, 3) := dk_180 0 240 (dk_at dksX2_takeNode_0 15 rfl rfl)
theorem dX2_takeNode_18 : decode cX2_takeNode 18 = .ok (.aload_n 0, 1) := dk_42 (dk_at dksX2_takeNode_0 18 rfl rfl)
theorem dX2_takeNode_19 : decode cX2_takeNode 19 = .ok (.getfield 38, 3) := dk_180 0 38 (dk_at dksX2_takeNode_0 19 rfl rfl)
theorem dX2_takeNode_22 : decode cX2_takeNode 22 = .ok (.iload_n 1, 1) := dk_27 (dk_at dksX2_takeNode_0 22 rfl rfl)
theorem dX2_takeNode_23 : decode cX2_takeNode 23 = .ok (.iaload, 1) := dk_46 (dk_at dksX2_takeNode_0 23 rfl rfl)
theorem dX2_takeNode_24 : decode cX2_takeNode 24 = .ok (.invokestatic 243, 3) := dk_184 0 243 (dk_at dksX2_takeNode_1 0 rfl rfl)
theorem dX2_takeNode_27 : decode cX2_takeNode 27 = .ok (.putfield 240, 3) := dk_181 0 240 (dk_at dksX2_takeNode_1 3 rfl rfl)
theorem dX2_takeNode_30 : decode cX2_takeNode 30 = .ok (.iconst 1, 1) := dk_4 (dk_at dksX2_takeNode_1 6 rfl rfl)
theorem dX2_takeNode_31 : decode cX2_takeNode 31 = .ok (.ireturn, 1) := dk_172 (dk_at dksX2_takeNode_1 7 rfl rfl)
abbrev cX2_greater : ByteArray := prog_25_method_5_code
def yX2_greater : MethodName := ⟨RX2, "greater", "(II)I"⟩
def dkwX2_greater_0 : List UInt8 := [26, 27, 164, 0, 7, 26, 167, 0, 4, 27, 172]
abbrev dktX2_greater_0 : List UInt8 := dkwX2_greater_0 ++ []
theorem dksX2_greater_0 : cX2_greater.data.toList.drop 0 = dktX2_greater_0 := by decide +kernel
theorem dX2_greater_0 : decode cX2_greater 0 = .ok (.iload_n 0, 1) := dk_26 (dk_at dksX2_greater_0 0 rfl rfl)
theorem dX2_greater_1 : decode cX2_greater 1 = .ok (.iload_n 1, 1) := dk_27 (dk_at dksX2_greater_0 1 rfl rfl)
theorem dX2_greater_2 : decode cX2_greater 2 = .ok (.if_icmp .le 7, 3) := dk_164 0 7 (dk_at dksX2_greater_0 2 rfl rfl)
theorem dX2_greater_5 : decode cX2_greater 5 = .ok (.iload_n 0, 1) := dk_26 (dk_at dksX2_greater_0 5 rfl rfl)
theorem dX2_greater_6 : decode cX2_greater 6 = .ok (.goto 4, 3) := dk_167 0 4 (dk_at dksX2_greater_0 6 rfl rfl)
theorem dX2_greater_9 : decode cX2_greater 9 = .ok (.iload_n 1, 1) := dk_27 (dk_at dksX2_greater_0 9 rfl rfl)
theorem dX2_greater_10 : decode cX2_greater 10 = .ok (.ireturn, 1) := dk_172 (dk_at dksX2_greater_0 10 rfl rfl)
abbrev cX2_keepLink : ByteArray := prog_25_method_25_code
def yX2_keepLink : MethodName := ⟨RX2, "keepLink", "()V"⟩
def dkwX2_keepLink_3 : List UInt8 := [96, 42, 180, 0, 38, 5, 46, 79, 167, 0, 13, 42, 5, 16, 11, 6, 16, 15, 182, 1, 3, 177]
abbrev dktX2_keepLink_3 : List UInt8 := dkwX2_keepLink_3 ++ []
def dkwX2_keepLink_2 : List UInt8 := [167, 255, 212, 27, 42, 180, 0, 35, 5, 46, 162, 0, 25, 42, 180, 0, 35, 16, 11, 6, 27, 104, 96, 5]
abbrev dktX2_keepLink_2 : List UInt8 := dkwX2_keepLink_2 ++ dktX2_keepLink_3
def dkwX2_keepLink_1 : List UInt8 := [42, 180, 0, 35, 16, 11, 6, 27, 104, 96, 4, 96, 46, 182, 1, 0, 154, 0, 9, 132, 1, 1]
abbrev dktX2_keepLink_1 : List UInt8 := dkwX2_keepLink_1 ++ dktX2_keepLink_2
def dkwX2_keepLink_0 : List UInt8 := [3, 60, 27, 42, 180, 0, 35, 5, 46, 162, 0, 40, 42, 42, 180, 0, 35, 16, 11, 6, 27, 104, 96, 46]
abbrev dktX2_keepLink_0 : List UInt8 := dkwX2_keepLink_0 ++ dktX2_keepLink_1
theorem dksX2_keepLink_0 : cX2_keepLink.data.toList.drop 0 = dktX2_keepLink_0 := by decide +kernel
theorem dksX2_keepLink_1 : cX2_keepLink.data.toList.drop 24 = dktX2_keepLink_1 := dk_seg dksX2_keepLink_0 24 rfl rfl
theorem dksX2_keepLink_2 : cX2_keepLink.data.toList.drop 46 = dktX2_keepLink_2 := dk_seg dksX2_keepLink_1 22 rfl rfl
theorem dksX2_keepLink_3 : cX2_keepLink.data.toList.drop 70 = dktX2_keepLink_3 := dk_seg dksX2_keepLink_2 24 rfl rfl
theorem dX2_keepLink_0 : decode cX2_keepLink 0 = .ok (.iconst 0, 1) := dk_3 (dk_at dksX2_keepLink_0 0 rfl rfl)
theorem dX2_keepLink_1 : decode cX2_keepLink 1 = .ok (.istore_n 1, 1) := dk_60 (dk_at dksX2_keepLink_0 1 rfl rfl)
theorem dX2_keepLink_2 : decode cX2_keepLink 2 = .ok (.iload_n 1, 1) := dk_27 (dk_at dksX2_keepLink_0 2 rfl rfl)
theorem dX2_keepLink_3 : decode cX2_keepLink 3 = .ok (.aload_n 0, 1) := dk_42 (dk_at dksX2_keepLink_0 3 rfl rfl)
theorem dX2_keepLink_4 : decode cX2_keepLink 4 = .ok (.getfield 35, 3) := dk_180 0 35 (dk_at dksX2_keepLink_0 4 rfl rfl)
theorem dX2_keepLink_7 : decode cX2_keepLink 7 = .ok (.iconst 2, 1) := dk_5 (dk_at dksX2_keepLink_0 7 rfl rfl)
theorem dX2_keepLink_8 : decode cX2_keepLink 8 = .ok (.iaload, 1) := dk_46 (dk_at dksX2_keepLink_0 8 rfl rfl)
theorem dX2_keepLink_9 : decode cX2_keepLink 9 = .ok (.if_icmp .ge 40, 3) := dk_162 0 40 (dk_at dksX2_keepLink_0 9 rfl rfl)
theorem dX2_keepLink_12 : decode cX2_keepLink 12 = .ok (.aload_n 0, 1) := dk_42 (dk_at dksX2_keepLink_0 12 rfl rfl)
theorem dX2_keepLink_13 : decode cX2_keepLink 13 = .ok (.aload_n 0, 1) := dk_42 (dk_at dksX2_keepLink_0 13 rfl rfl)
theorem dX2_keepLink_14 : decode cX2_keepLink 14 = .ok (.getfield 35, 3) := dk_180 0 35 (dk_at dksX2_keepLink_0 14 rfl rfl)
theorem dX2_keepLink_17 : decode cX2_keepLink 17 = .ok (.bipush 11, 2) := dk_16 11 (dk_at dksX2_keepLink_0 17 rfl rfl)
theorem dX2_keepLink_19 : decode cX2_keepLink 19 = .ok (.iconst 3, 1) := dk_6 (dk_at dksX2_keepLink_0 19 rfl rfl)
theorem dX2_keepLink_20 : decode cX2_keepLink 20 = .ok (.iload_n 1, 1) := dk_27 (dk_at dksX2_keepLink_0 20 rfl rfl)
theorem dX2_keepLink_21 : decode cX2_keepLink 21 = .ok (.imul, 1) := dk_104 (dk_at dksX2_keepLink_0 21 rfl rfl)
theorem dX2_keepLink_22 : decode cX2_keepLink 22 = .ok (.iadd, 1) := dk_96 (dk_at dksX2_keepLink_0 22 rfl rfl)
theorem dX2_keepLink_23 : decode cX2_keepLink 23 = .ok (.iaload, 1) := dk_46 (dk_at dksX2_keepLink_0 23 rfl rfl)
theorem dX2_keepLink_24 : decode cX2_keepLink 24 = .ok (.aload_n 0, 1) := dk_42 (dk_at dksX2_keepLink_1 0 rfl rfl)
theorem dX2_keepLink_25 : decode cX2_keepLink 25 = .ok (.getfield 35, 3) := dk_180 0 35 (dk_at dksX2_keepLink_1 1 rfl rfl)
theorem dX2_keepLink_28 : decode cX2_keepLink 28 = .ok (.bipush 11, 2) := dk_16 11 (dk_at dksX2_keepLink_1 4 rfl rfl)
theorem dX2_keepLink_30 : decode cX2_keepLink 30 = .ok (.iconst 3, 1) := dk_6 (dk_at dksX2_keepLink_1 6 rfl rfl)
theorem dX2_keepLink_31 : decode cX2_keepLink 31 = .ok (.iload_n 1, 1) := dk_27 (dk_at dksX2_keepLink_1 7 rfl rfl)
theorem dX2_keepLink_32 : decode cX2_keepLink 32 = .ok (.imul, 1) := dk_104 (dk_at dksX2_keepLink_1 8 rfl rfl)
theorem dX2_keepLink_33 : decode cX2_keepLink 33 = .ok (.iadd, 1) := dk_96 (dk_at dksX2_keepLink_1 9 rfl rfl)
theorem dX2_keepLink_34 : decode cX2_keepLink 34 = .ok (.iconst 1, 1) := dk_4 (dk_at dksX2_keepLink_1 10 rfl rfl)
theorem dX2_keepLink_35 : decode cX2_keepLink 35 = .ok (.iadd, 1) := dk_96 (dk_at dksX2_keepLink_1 11 rfl rfl)
theorem dX2_keepLink_36 : decode cX2_keepLink 36 = .ok (.iaload, 1) := dk_46 (dk_at dksX2_keepLink_1 12 rfl rfl)
theorem dX2_keepLink_37 : decode cX2_keepLink 37 = .ok (.invokevirtual 256, 3) := dk_182 1 0 (dk_at dksX2_keepLink_1 13 rfl rfl)
theorem dX2_keepLink_40 : decode cX2_keepLink 40 = .ok (.ifCond .ne 9, 3) := dk_154 0 9 (dk_at dksX2_keepLink_1 16 rfl rfl)
theorem dX2_keepLink_43 : decode cX2_keepLink 43 = .ok (.iinc 1 1, 3) := dk_132 1 1 (dk_at dksX2_keepLink_1 19 rfl rfl)
theorem dX2_keepLink_46 : decode cX2_keepLink 46 = .ok (.goto (-44), 3) := dk_167 255 212 (dk_at dksX2_keepLink_2 0 rfl rfl)
theorem dX2_keepLink_49 : decode cX2_keepLink 49 = .ok (.iload_n 1, 1) := dk_27 (dk_at dksX2_keepLink_2 3 rfl rfl)
theorem dX2_keepLink_50 : decode cX2_keepLink 50 = .ok (.aload_n 0, 1) := dk_42 (dk_at dksX2_keepLink_2 4 rfl rfl)
theorem dX2_keepLink_51 : decode cX2_keepLink 51 = .ok (.getfield 35, 3) := dk_180 0 35 (dk_at dksX2_keepLink_2 5 rfl rfl)
theorem dX2_keepLink_54 : decode cX2_keepLink 54 = .ok (.iconst 2, 1) := dk_5 (dk_at dksX2_keepLink_2 8 rfl rfl)
theorem dX2_keepLink_55 : decode cX2_keepLink 55 = .ok (.iaload, 1) := dk_46 (dk_at dksX2_keepLink_2 9 rfl rfl)
theorem dX2_keepLink_56 : decode cX2_keepLink 56 = .ok (.if_icmp .ge 25, 3) := dk_162 0 25 (dk_at dksX2_keepLink_2 10 rfl rfl)
theorem dX2_keepLink_59 : decode cX2_keepLink 59 = .ok (.aload_n 0, 1) := dk_42 (dk_at dksX2_keepLink_2 13 rfl rfl)
theorem dX2_keepLink_60 : decode cX2_keepLink 60 = .ok (.getfield 35, 3) := dk_180 0 35 (dk_at dksX2_keepLink_2 14 rfl rfl)
theorem dX2_keepLink_63 : decode cX2_keepLink 63 = .ok (.bipush 11, 2) := dk_16 11 (dk_at dksX2_keepLink_2 17 rfl rfl)
theorem dX2_keepLink_65 : decode cX2_keepLink 65 = .ok (.iconst 3, 1) := dk_6 (dk_at dksX2_keepLink_2 19 rfl rfl)
theorem dX2_keepLink_66 : decode cX2_keepLink 66 = .ok (.iload_n 1, 1) := dk_27 (dk_at dksX2_keepLink_2 20 rfl rfl)
theorem dX2_keepLink_67 : decode cX2_keepLink 67 = .ok (.imul, 1) := dk_104 (dk_at dksX2_keepLink_2 21 rfl rfl)
theorem dX2_keepLink_68 : decode cX2_keepLink 68 = .ok (.iadd, 1) := dk_96 (dk_at dksX2_keepLink_2 22 rfl rfl)
theorem dX2_keepLink_69 : decode cX2_keepLink 69 = .ok (.iconst 2, 1) := dk_5 (dk_at dksX2_keepLink_2 23 rfl rfl)
theorem dX2_keepLink_70 : decode cX2_keepLink 70 = .ok (.iadd, 1) := dk_96 (dk_at dksX2_keepLink_3 0 rfl rfl)
theorem dX2_keepLink_71 : decode cX2_keepLink 71 = .ok (.aload_n 0, 1) := dk_42 (dk_at dksX2_keepLink_3 1 rfl rfl)
theorem dX2_keepLink_72 : decode cX2_keepLink 72 = .ok (.getfield 38, 3) := dk_180 0 38 (dk_at dksX2_keepLink_3 2 rfl rfl)
theorem dX2_keepLink_75 : decode cX2_keepLink 75 = .ok (.iconst 2, 1) := dk_5 (dk_at dksX2_keepLink_3 5 rfl rfl)
theorem dX2_keepLink_76 : decode cX2_keepLink 76 = .ok (.iaload, 1) := dk_46 (dk_at dksX2_keepLink_3 6 rfl rfl)
theorem dX2_keepLink_77 : decode cX2_keepLink 77 = .ok (.iastore, 1) := dk_79 (dk_at dksX2_keepLink_3 7 rfl rfl)
theorem dX2_keepLink_78 : decode cX2_keepLink 78 = .ok (.goto 13, 3) := dk_167 0 13 (dk_at dksX2_keepLink_3 8 rfl rfl)
theorem dX2_keepLink_81 : decode cX2_keepLink 81 = .ok (.aload_n 0, 1) := dk_42 (dk_at dksX2_keepLink_3 11 rfl rfl)
theorem dX2_keepLink_82 : decode cX2_keepLink 82 = .ok (.iconst 2, 1) := dk_5 (dk_at dksX2_keepLink_3 12 rfl rfl)
theorem dX2_keepLink_83 : decode cX2_keepLink 83 = .ok (.bipush 11, 2) := dk_16 11 (dk_at dksX2_keepLink_3 13 rfl rfl)
theorem dX2_keepLink_85 : decode cX2_keepLink 85 = .ok (.iconst 3, 1) := dk_6 (dk_at dksX2_keepLink_3 15 rfl rfl)
theorem dX2_keepLink_86 : decode cX2_keepLink 86 = .ok (.bipush 15, 2) := dk_16 15 (dk_at dksX2_keepLink_3 16 rfl rfl)
theorem dX2_keepLink_88 : decode cX2_keepLink 88 = .ok (.invokevirtual 259, 3) := dk_182 1 3 (dk_at dksX2_keepLink_3 18 rfl rfl)
theorem dX2_keepLink_91 : decode cX2_keepLink 91 = .ok (.return_, 1) := dk_177 (dk_at dksX2_keepLink_3 21 rfl rfl)
abbrev cX2_isOf : ByteArray := prog_25_method_26_code
def yX2_isOf : MethodName := ⟨RX2, "isOf", "(II)Z"⟩
def dkwX2_isOf_1 : List UInt8 := [180, 0, 38, 4, 46, 160, 0, 17, 28, 42, 180, 0, 38, 3, 46, 160, 0, 7, 4, 167, 0, 4, 3, 172]
abbrev dktX2_isOf_1 : List UInt8 := dkwX2_isOf_1 ++ []
def dkwX2_isOf_0 : List UInt8 := [27, 42, 180, 0, 38, 3, 46, 160, 0, 13, 28, 42, 180, 0, 38, 4, 46, 159, 0, 23, 27, 42]
abbrev dktX2_isOf_0 : List UInt8 := dkwX2_isOf_0 ++ dktX2_isOf_1
theorem dksX2_isOf_0 : cX2_isOf.data.toList.drop 0 = dktX2_isOf_0 := by decide +kernel
theorem dksX2_isOf_1 : cX2_isOf.data.toList.drop 22 = dktX2_isOf_1 := dk_seg dksX2_isOf_0 22 rfl rfl
theorem dX2_isOf_0 : decode cX2_isOf 0 = .ok (.iload_n 1, 1) := dk_27 (dk_at dksX2_isOf_0 0 rfl rfl)
theorem dX2_isOf_1 : decode cX2_isOf 1 = .ok (.aload_n 0, 1) := dk_42 (dk_at dksX2_isOf_0 1 rfl rfl)
theorem dX2_isOf_2 : decode cX2_isOf 2 = .ok (.getfield 38, 3) := dk_180 0 38 (dk_at dksX2_isOf_0 2 rfl rfl)
theorem dX2_isOf_5 : decode cX2_isOf 5 = .ok (.iconst 0, 1) := dk_3 (dk_at dksX2_isOf_0 5 rfl rfl)
theorem dX2_isOf_6 : decode cX2_isOf 6 = .ok (.iaload, 1) := dk_46 (dk_at dksX2_isOf_0 6 rfl rfl)
theorem dX2_isOf_7 : decode cX2_isOf 7 = .ok (.if_icmp .ne 13, 3) := dk_160 0 13 (dk_at dksX2_isOf_0 7 rfl rfl)
theorem dX2_isOf_10 : decode cX2_isOf 10 = .ok (.iload_n 2, 1) := dk_28 (dk_at dksX2_isOf_0 10 rfl rfl)
theorem dX2_isOf_11 : decode cX2_isOf 11 = .ok (.aload_n 0, 1) := dk_42 (dk_at dksX2_isOf_0 11 rfl rfl)
theorem dX2_isOf_12 : decode cX2_isOf 12 = .ok (.getfield 38, 3) := dk_180 0 38 (dk_at dksX2_isOf_0 12 rfl rfl)
theorem dX2_isOf_15 : decode cX2_isOf 15 = .ok (.iconst 1, 1) := dk_4 (dk_at dksX2_isOf_0 15 rfl rfl)
theorem dX2_isOf_16 : decode cX2_isOf 16 = .ok (.iaload, 1) := dk_46 (dk_at dksX2_isOf_0 16 rfl rfl)
theorem dX2_isOf_17 : decode cX2_isOf 17 = .ok (.if_icmp .eq 23, 3) := dk_159 0 23 (dk_at dksX2_isOf_0 17 rfl rfl)
theorem dX2_isOf_20 : decode cX2_isOf 20 = .ok (.iload_n 1, 1) := dk_27 (dk_at dksX2_isOf_0 20 rfl rfl)
theorem dX2_isOf_21 : decode cX2_isOf 21 = .ok (.aload_n 0, 1) := dk_42 (dk_at dksX2_isOf_0 21 rfl rfl)
theorem dX2_isOf_22 : decode cX2_isOf 22 = .ok (.getfield 38, 3) := dk_180 0 38 (dk_at dksX2_isOf_1 0 rfl rfl)
theorem dX2_isOf_25 : decode cX2_isOf 25 = .ok (.iconst 1, 1) := dk_4 (dk_at dksX2_isOf_1 3 rfl rfl)
theorem dX2_isOf_26 : decode cX2_isOf 26 = .ok (.iaload, 1) := dk_46 (dk_at dksX2_isOf_1 4 rfl rfl)
theorem dX2_isOf_27 : decode cX2_isOf 27 = .ok (.if_icmp .ne 17, 3) := dk_160 0 17 (dk_at dksX2_isOf_1 5 rfl rfl)
theorem dX2_isOf_30 : decode cX2_isOf 30 = .ok (.iload_n 2, 1) := dk_28 (dk_at dksX2_isOf_1 8 rfl rfl)
theorem dX2_isOf_31 : decode cX2_isOf 31 = .ok (.aload_n 0, 1) := dk_42 (dk_at dksX2_isOf_1 9 rfl rfl)
theorem dX2_isOf_32 : decode cX2_isOf 32 = .ok (.getfield 38, 3) := dk_180 0 38 (dk_at dksX2_isOf_1 10 rfl rfl)
theorem dX2_isOf_35 : decode cX2_isOf 35 = .ok (.iconst 0, 1) := dk_3 (dk_at dksX2_isOf_1 13 rfl rfl)
theorem dX2_isOf_36 : decode cX2_isOf 36 = .ok (.iaload, 1) := dk_46 (dk_at dksX2_isOf_1 14 rfl rfl)
theorem dX2_isOf_37 : decode cX2_isOf 37 = .ok (.if_icmp .ne 7, 3) := dk_160 0 7 (dk_at dksX2_isOf_1 15 rfl rfl)
theorem dX2_isOf_40 : decode cX2_isOf 40 = .ok (.iconst 1, 1) := dk_4 (dk_at dksX2_isOf_1 18 rfl rfl)
theorem dX2_isOf_41 : decode cX2_isOf 41 = .ok (.goto 4, 3) := dk_167 0 4 (dk_at dksX2_isOf_1 19 rfl rfl)
theorem dX2_isOf_44 : decode cX2_isOf 44 = .ok (.iconst 0, 1) := dk_3 (dk_at dksX2_isOf_1 22 rfl rfl)
theorem dX2_isOf_45 : decode cX2_isOf 45 = .ok (.ireturn, 1) := dk_172 (dk_at dksX2_isOf_1 23 rfl rfl)
abbrev cX2_keepRow : ByteArray := prog_25_method_24_code
def yX2_keepRow : MethodName := ⟨RX2, "keepRow", "(IIII)V"⟩
def dkwX2_keepRow_2 : List UInt8 := [167, 255, 219, 42, 180, 0, 35, 27, 21, 4, 21, 5, 4, 96, 184, 0, 253, 79, 177]
abbrev dktX2_keepRow_2 : List UInt8 := dkwX2_keepRow_2 ++ []
def dkwX2_keepRow_1 : List UInt8 := [42, 180, 0, 35, 28, 29, 21, 5, 104, 96, 21, 6, 96, 42, 180, 0, 38, 21, 6, 46, 79, 132, 6, 1]
abbrev dktX2_keepRow_1 : List UInt8 := dkwX2_keepRow_1 ++ dktX2_keepRow_2
def dkwX2_keepRow_0 : List UInt8 := [42, 180, 0, 35, 27, 46, 54, 5, 3, 54, 6, 21, 6, 29, 162, 0, 37, 21, 5, 21, 4, 162, 0, 30]
abbrev dktX2_keepRow_0 : List UInt8 := dkwX2_keepRow_0 ++ dktX2_keepRow_1
theorem dksX2_keepRow_0 : cX2_keepRow.data.toList.drop 0 = dktX2_keepRow_0 := by decide +kernel
theorem dksX2_keepRow_1 : cX2_keepRow.data.toList.drop 24 = dktX2_keepRow_1 := dk_seg dksX2_keepRow_0 24 rfl rfl
theorem dksX2_keepRow_2 : cX2_keepRow.data.toList.drop 48 = dktX2_keepRow_2 := dk_seg dksX2_keepRow_1 24 rfl rfl
theorem dX2_keepRow_0 : decode cX2_keepRow 0 = .ok (.aload_n 0, 1) := dk_42 (dk_at dksX2_keepRow_0 0 rfl rfl)
theorem dX2_keepRow_1 : decode cX2_keepRow 1 = .ok (.getfield 35, 3) := dk_180 0 35 (dk_at dksX2_keepRow_0 1 rfl rfl)
theorem dX2_keepRow_4 : decode cX2_keepRow 4 = .ok (.iload_n 1, 1) := dk_27 (dk_at dksX2_keepRow_0 4 rfl rfl)
theorem dX2_keepRow_5 : decode cX2_keepRow 5 = .ok (.iaload, 1) := dk_46 (dk_at dksX2_keepRow_0 5 rfl rfl)
theorem dX2_keepRow_6 : decode cX2_keepRow 6 = .ok (.istore 5, 2) := dk_54 5 (dk_at dksX2_keepRow_0 6 rfl rfl)
theorem dX2_keepRow_8 : decode cX2_keepRow 8 = .ok (.iconst 0, 1) := dk_3 (dk_at dksX2_keepRow_0 8 rfl rfl)
theorem dX2_keepRow_9 : decode cX2_keepRow 9 = .ok (.istore 6, 2) := dk_54 6 (dk_at dksX2_keepRow_0 9 rfl rfl)
theorem dX2_keepRow_11 : decode cX2_keepRow 11 = .ok (.iload 6, 2) := dk_21 6 (dk_at dksX2_keepRow_0 11 rfl rfl)
theorem dX2_keepRow_13 : decode cX2_keepRow 13 = .ok (.iload_n 3, 1) := dk_29 (dk_at dksX2_keepRow_0 13 rfl rfl)
theorem dX2_keepRow_14 : decode cX2_keepRow 14 = .ok (.if_icmp .ge 37, 3) := dk_162 0 37 (dk_at dksX2_keepRow_0 14 rfl rfl)
theorem dX2_keepRow_17 : decode cX2_keepRow 17 = .ok (.iload 5, 2) := dk_21 5 (dk_at dksX2_keepRow_0 17 rfl rfl)
theorem dX2_keepRow_19 : decode cX2_keepRow 19 = .ok (.iload 4, 2) := dk_21 4 (dk_at dksX2_keepRow_0 19 rfl rfl)
theorem dX2_keepRow_21 : decode cX2_keepRow 21 = .ok (.if_icmp .ge 30, 3) := dk_162 0 30 (dk_at dksX2_keepRow_0 21 rfl rfl)
theorem dX2_keepRow_24 : decode cX2_keepRow 24 = .ok (.aload_n 0, 1) := dk_42 (dk_at dksX2_keepRow_1 0 rfl rfl)
theorem dX2_keepRow_25 : decode cX2_keepRow 25 = .ok (.getfield 35, 3) := dk_180 0 35 (dk_at dksX2_keepRow_1 1 rfl rfl)
theorem dX2_keepRow_28 : decode cX2_keepRow 28 = .ok (.iload_n 2, 1) := dk_28 (dk_at dksX2_keepRow_1 4 rfl rfl)
theorem dX2_keepRow_29 : decode cX2_keepRow 29 = .ok (.iload_n 3, 1) := dk_29 (dk_at dksX2_keepRow_1 5 rfl rfl)
theorem dX2_keepRow_30 : decode cX2_keepRow 30 = .ok (.iload 5, 2) := dk_21 5 (dk_at dksX2_keepRow_1 6 rfl rfl)
theorem dX2_keepRow_32 : decode cX2_keepRow 32 = .ok (.imul, 1) := dk_104 (dk_at dksX2_keepRow_1 8 rfl rfl)
theorem dX2_keepRow_33 : decode cX2_keepRow 33 = .ok (.iadd, 1) := dk_96 (dk_at dksX2_keepRow_1 9 rfl rfl)
theorem dX2_keepRow_34 : decode cX2_keepRow 34 = .ok (.iload 6, 2) := dk_21 6 (dk_at dksX2_keepRow_1 10 rfl rfl)
theorem dX2_keepRow_36 : decode cX2_keepRow 36 = .ok (.iadd, 1) := dk_96 (dk_at dksX2_keepRow_1 12 rfl rfl)
theorem dX2_keepRow_37 : decode cX2_keepRow 37 = .ok (.aload_n 0, 1) := dk_42 (dk_at dksX2_keepRow_1 13 rfl rfl)
theorem dX2_keepRow_38 : decode cX2_keepRow 38 = .ok (.getfield 38, 3) := dk_180 0 38 (dk_at dksX2_keepRow_1 14 rfl rfl)
theorem dX2_keepRow_41 : decode cX2_keepRow 41 = .ok (.iload 6, 2) := dk_21 6 (dk_at dksX2_keepRow_1 17 rfl rfl)
theorem dX2_keepRow_43 : decode cX2_keepRow 43 = .ok (.iaload, 1) := dk_46 (dk_at dksX2_keepRow_1 19 rfl rfl)
theorem dX2_keepRow_44 : decode cX2_keepRow 44 = .ok (.iastore, 1) := dk_79 (dk_at dksX2_keepRow_1 20 rfl rfl)
theorem dX2_keepRow_45 : decode cX2_keepRow 45 = .ok (.iinc 6 1, 3) := dk_132 6 1 (dk_at dksX2_keepRow_1 21 rfl rfl)
theorem dX2_keepRow_48 : decode cX2_keepRow 48 = .ok (.goto (-37), 3) := dk_167 255 219 (dk_at dksX2_keepRow_2 0 rfl rfl)
theorem dX2_keepRow_51 : decode cX2_keepRow 51 = .ok (.aload_n 0, 1) := dk_42 (dk_at dksX2_keepRow_2 3 rfl rfl)
theorem dX2_keepRow_52 : decode cX2_keepRow 52 = .ok (.getfield 35, 3) := dk_180 0 35 (dk_at dksX2_keepRow_2 4 rfl rfl)
theorem dX2_keepRow_55 : decode cX2_keepRow 55 = .ok (.iload_n 1, 1) := dk_27 (dk_at dksX2_keepRow_2 7 rfl rfl)
theorem dX2_keepRow_56 : decode cX2_keepRow 56 = .ok (.iload 4, 2) := dk_21 4 (dk_at dksX2_keepRow_2 8 rfl rfl)
theorem dX2_keepRow_58 : decode cX2_keepRow 58 = .ok (.iload 5, 2) := dk_21 5 (dk_at dksX2_keepRow_2 10 rfl rfl)
theorem dX2_keepRow_60 : decode cX2_keepRow 60 = .ok (.iconst 1, 1) := dk_4 (dk_at dksX2_keepRow_2 12 rfl rfl)
theorem dX2_keepRow_61 : decode cX2_keepRow 61 = .ok (.iadd, 1) := dk_96 (dk_at dksX2_keepRow_2 13 rfl rfl)
theorem dX2_keepRow_62 : decode cX2_keepRow 62 = .ok (.invokestatic 253, 3) := dk_184 0 253 (dk_at dksX2_keepRow_2 14 rfl rfl)
theorem dX2_keepRow_65 : decode cX2_keepRow 65 = .ok (.iastore, 1) := dk_79 (dk_at dksX2_keepRow_2 17 rfl rfl)
theorem dX2_keepRow_66 : decode cX2_keepRow 66 = .ok (.return_, 1) := dk_177 (dk_at dksX2_keepRow_2 18 rfl rfl)
abbrev cX2_lesser : ByteArray := prog_25_method_6_code
def yX2_lesser : MethodName := ⟨RX2, "lesser", "(II)I"⟩
def dkwX2_lesser_0 : List UInt8 := [26, 27, 162, 0, 7, 26, 167, 0, 4, 27, 172]
abbrev dktX2_lesser_0 : List UInt8 := dkwX2_lesser_0 ++ []
theorem dksX2_lesser_0 : cX2_lesser.data.toList.drop 0 = dktX2_lesser_0 := by decide +kernel
theorem dX2_lesser_0 : decode cX2_lesser 0 = .ok (.iload_n 0, 1) := dk_26 (dk_at dksX2_lesser_0 0 rfl rfl)
theorem dX2_lesser_1 : decode cX2_lesser 1 = .ok (.iload_n 1, 1) := dk_27 (dk_at dksX2_lesser_0 1 rfl rfl)
theorem dX2_lesser_2 : decode cX2_lesser 2 = .ok (.if_icmp .ge 7, 3) := dk_162 0 7 (dk_at dksX2_lesser_0 2 rfl rfl)
theorem dX2_lesser_5 : decode cX2_lesser 5 = .ok (.iload_n 0, 1) := dk_26 (dk_at dksX2_lesser_0 5 rfl rfl)
theorem dX2_lesser_6 : decode cX2_lesser 6 = .ok (.goto 4, 3) := dk_167 0 4 (dk_at dksX2_lesser_0 6 rfl rfl)
theorem dX2_lesser_9 : decode cX2_lesser 9 = .ok (.iload_n 1, 1) := dk_27 (dk_at dksX2_lesser_0 9 rfl rfl)
theorem dX2_lesser_10 : decode cX2_lesser 10 = .ok (.ireturn, 1) := dk_172 (dk_at dksX2_lesser_0 10 rfl rfl)
abbrev cX2_full : ByteArray := prog_25_method_23_code
def yX2_full : MethodName := ⟨RX2, "full", "(III)V"⟩
def dkwX2_full_0 : List UInt8 := [42, 180, 0, 35, 27, 46, 28, 160, 0, 9, 42, 6, 29, 182, 0, 225, 177]
abbrev dktX2_full_0 : List UInt8 := dkwX2_full_0 ++ []
theorem dksX2_full_0 : cX2_full.data.toList.drop 0 = dktX2_full_0 := by decide +kernel
theorem dX2_full_0 : decode cX2_full 0 = .ok (.aload_n 0, 1) := dk_42 (dk_at dksX2_full_0 0 rfl rfl)
theorem dX2_full_1 : decode cX2_full 1 = .ok (.getfield 35, 3) := dk_180 0 35 (dk_at dksX2_full_0 1 rfl rfl)
theorem dX2_full_4 : decode cX2_full 4 = .ok (.iload_n 1, 1) := dk_27 (dk_at dksX2_full_0 4 rfl rfl)
theorem dX2_full_5 : decode cX2_full 5 = .ok (.iaload, 1) := dk_46 (dk_at dksX2_full_0 5 rfl rfl)
theorem dX2_full_6 : decode cX2_full 6 = .ok (.iload_n 2, 1) := dk_28 (dk_at dksX2_full_0 6 rfl rfl)
theorem dX2_full_7 : decode cX2_full 7 = .ok (.if_icmp .ne 9, 3) := dk_160 0 9 (dk_at dksX2_full_0 7 rfl rfl)
theorem dX2_full_10 : decode cX2_full 10 = .ok (.aload_n 0, 1) := dk_42 (dk_at dksX2_full_0 10 rfl rfl)
theorem dX2_full_11 : decode cX2_full 11 = .ok (.iconst 3, 1) := dk_6 (dk_at dksX2_full_0 11 rfl rfl)
theorem dX2_full_12 : decode cX2_full 12 = .ok (.iload_n 3, 1) := dk_29 (dk_at dksX2_full_0 12 rfl rfl)
theorem dX2_full_13 : decode cX2_full 13 = .ok (.invokevirtual 225, 3) := dk_182 0 225 (dk_at dksX2_full_0 13 rfl rfl)
theorem dX2_full_16 : decode cX2_full 16 = .ok (.return_, 1) := dk_177 (dk_at dksX2_full_0 16 rfl rfl)
abbrev cX2_takeName : ByteArray := prog_25_method_22_code
def yX2_takeName : MethodName := ⟨RX2, "takeName", "(I)Z"⟩
def dkwX2_takeName_2 : List UInt8 := [180, 0, 202, 184, 0, 249, 79, 42, 182, 0, 233, 4, 172]
abbrev dktX2_takeName_2 : List UInt8 := dkwX2_takeName_2 ++ []
def dkwX2_takeName_1 : List UInt8 := [164, 0, 17, 42, 5, 42, 180, 0, 199, 182, 0, 225, 42, 3, 181, 0, 229, 42, 180, 0, 38, 27, 42]
abbrev dktX2_takeName_1 : List UInt8 := dkwX2_takeName_1 ++ dktX2_takeName_2
def dkwX2_takeName_0 : List UInt8 := [42, 180, 0, 206, 5, 159, 0, 8, 42, 182, 0, 221, 172, 42, 180, 0, 189, 42, 180, 0, 199, 100, 7]
abbrev dktX2_takeName_0 : List UInt8 := dkwX2_takeName_0 ++ dktX2_takeName_1
theorem dksX2_takeName_0 : cX2_takeName.data.toList.drop 0 = dktX2_takeName_0 := by decide +kernel
theorem dksX2_takeName_1 : cX2_takeName.data.toList.drop 23 = dktX2_takeName_1 := dk_seg dksX2_takeName_0 23 rfl rfl
theorem dksX2_takeName_2 : cX2_takeName.data.toList.drop 46 = dktX2_takeName_2 := dk_seg dksX2_takeName_1 23 rfl rfl
theorem dX2_takeName_0 : decode cX2_takeName 0 = .ok (.aload_n 0, 1) := dk_42 (dk_at dksX2_takeName_0 0 rfl rfl)
theorem dX2_takeName_1 : decode cX2_takeName 1 = .ok (.getfield 206, 3) := dk_180 0 206 (dk_at dksX2_takeName_0 1 rfl rfl)
theorem dX2_takeName_4 : decode cX2_takeName 4 = .ok (.iconst 2, 1) := dk_5 (dk_at dksX2_takeName_0 4 rfl rfl)
theorem dX2_takeName_5 : decode cX2_takeName 5 = .ok (.if_icmp .eq 8, 3) := dk_159 0 8 (dk_at dksX2_takeName_0 5 rfl rfl)
theorem dX2_takeName_8 : decode cX2_takeName 8 = .ok (.aload_n 0, 1) := dk_42 (dk_at dksX2_takeName_0 8 rfl rfl)
theorem dX2_takeName_9 : decode cX2_takeName 9 = .ok (.invokevirtual 221, 3) := dk_182 0 221 (dk_at dksX2_takeName_0 9 rfl rfl)
theorem dX2_takeName_12 : decode cX2_takeName 12 = .ok (.ireturn, 1) := dk_172 (dk_at dksX2_takeName_0 12 rfl rfl)
theorem dX2_takeName_13 : decode cX2_takeName 13 = .ok (.aload_n 0, 1) := dk_42 (dk_at dksX2_takeName_0 13 rfl rfl)
theorem dX2_takeName_14 : decode cX2_takeName 14 = .ok (.getfield 189, 3) := dk_180 0 189 (dk_at dksX2_takeName_0 14 rfl rfl)
theorem dX2_takeName_17 : decode cX2_takeName 17 = .ok (.aload_n 0, 1) := dk_42 (dk_at dksX2_takeName_0 17 rfl rfl)
theorem dX2_takeName_18 : decode cX2_takeName 18 = .ok (.getfield 199, 3) := dk_180 0 199 (dk_at dksX2_takeName_0 18 rfl rfl)
theorem dX2_takeName_21 : decode cX2_takeName 21 = .ok (.isub, 1) := dk_100 (dk_at dksX2_takeName_0 21 rfl rfl)
theorem dX2_takeName_22 : decode cX2_takeName 22 = .ok (.iconst 4, 1) := dk_7 (dk_at dksX2_takeName_0 22 rfl rfl)
theorem dX2_takeName_23 : decode cX2_takeName 23 = .ok (.if_icmp .le 17, 3) := dk_164 0 17 (dk_at dksX2_takeName_1 0 rfl rfl)
theorem dX2_takeName_26 : decode cX2_takeName 26 = .ok (.aload_n 0, 1) := dk_42 (dk_at dksX2_takeName_1 3 rfl rfl)
theorem dX2_takeName_27 : decode cX2_takeName 27 = .ok (.iconst 2, 1) := dk_5 (dk_at dksX2_takeName_1 4 rfl rfl)
theorem dX2_takeName_28 : decode cX2_takeName 28 = .ok (.aload_n 0, 1) := dk_42 (dk_at dksX2_takeName_1 5 rfl rfl)
theorem dX2_takeName_29 : decode cX2_takeName 29 = .ok (.getfield 199, 3) := dk_180 0 199 (dk_at dksX2_takeName_1 6 rfl rfl)
theorem dX2_takeName_32 : decode cX2_takeName 32 = .ok (.invokevirtual 225, 3) := dk_182 0 225 (dk_at dksX2_takeName_1 9 rfl rfl)
theorem dX2_takeName_35 : decode cX2_takeName 35 = .ok (.aload_n 0, 1) := dk_42 (dk_at dksX2_takeName_1 12 rfl rfl)
theorem dX2_takeName_36 : decode cX2_takeName 36 = .ok (.iconst 0, 1) := dk_3 (dk_at dksX2_takeName_1 13 rfl rfl)
theorem dX2_takeName_37 : decode cX2_takeName 37 = .ok (.putfield 229, 3) := dk_181 0 229 (dk_at dksX2_takeName_1 14 rfl rfl)
theorem dX2_takeName_40 : decode cX2_takeName 40 = .ok (.aload_n 0, 1) := dk_42 (dk_at dksX2_takeName_1 17 rfl rfl)
theorem dX2_takeName_41 : decode cX2_takeName 41 = .ok (.getfield 38, 3) := dk_180 0 38 (dk_at dksX2_takeName_1 18 rfl rfl)
theorem dX2_takeName_44 : decode cX2_takeName 44 = .ok (.iload_n 1, 1) := dk_27 (dk_at dksX2_takeName_1 21 rfl rfl)
theorem dX2_takeName_45 : decode cX2_takeName 45 = .ok (.aload_n 0, 1) := dk_42 (dk_at dksX2_takeName_1 22 rfl rfl)
theorem dX2_takeName_46 : decode cX2_takeName 46 = .ok (.getfield 202, 3) := dk_180 0 202 (dk_at dksX2_takeName_2 0 rfl rfl)
theorem dX2_takeName_49 : decode cX2_takeName 49 = .ok (.invokestatic 249, 3) := dk_184 0 249 (dk_at dksX2_takeName_2 3 rfl rfl)
theorem dX2_takeName_52 : decode cX2_takeName 52 = .ok (.iastore, 1) := dk_79 (dk_at dksX2_takeName_2 6 rfl rfl)
theorem dX2_takeName_53 : decode cX2_takeName 53 = .ok (.aload_n 0, 1) := dk_42 (dk_at dksX2_takeName_2 7 rfl rfl)
theorem dX2_takeName_54 : decode cX2_takeName 54 = .ok (.invokevirtual 233, 3) := dk_182 0 233 (dk_at dksX2_takeName_2 8 rfl rfl)
theorem dX2_takeName_57 : decode cX2_takeName 57 = .ok (.iconst 1, 1) := dk_4 (dk_at dksX2_takeName_2 11 rfl rfl)
theorem dX2_takeName_58 : decode cX2_takeName 58 = .ok (.ireturn, 1) := dk_172 (dk_at dksX2_takeName_2 12 rfl rfl)
abbrev cX2_numberOf : ByteArray := prog_25_method_21_code
def yX2_numberOf : MethodName := ⟨RX2, "numberOf", "(J)I"⟩
def dkwX2_numberOf_1 : List UInt8 := [28, 167, 0, 13, 16, 27, 28, 104, 21, 4, 96, 16, 96, 100, 61, 132, 3, 248, 167, 255, 219, 28, 172]
abbrev dktX2_numberOf_1 : List UInt8 := dkwX2_numberOf_1 ++ []
def dkwX2_numberOf_0 : List UInt8 := [3, 61, 16, 24, 62, 29, 155, 0, 39, 30, 29, 123, 20, 0, 247, 127, 136, 54, 4, 21, 4, 154, 0, 7]
abbrev dktX2_numberOf_0 : List UInt8 := dkwX2_numberOf_0 ++ dktX2_numberOf_1
theorem dksX2_numberOf_0 : cX2_numberOf.data.toList.drop 0 = dktX2_numberOf_0 := by decide +kernel
theorem dksX2_numberOf_1 : cX2_numberOf.data.toList.drop 24 = dktX2_numberOf_1 := dk_seg dksX2_numberOf_0 24 rfl rfl
theorem dX2_numberOf_0 : decode cX2_numberOf 0 = .ok (.iconst 0, 1) := dk_3 (dk_at dksX2_numberOf_0 0 rfl rfl)
theorem dX2_numberOf_1 : decode cX2_numberOf 1 = .ok (.istore_n 2, 1) := dk_61 (dk_at dksX2_numberOf_0 1 rfl rfl)
theorem dX2_numberOf_2 : decode cX2_numberOf 2 = .ok (.bipush 24, 2) := dk_16 24 (dk_at dksX2_numberOf_0 2 rfl rfl)
theorem dX2_numberOf_4 : decode cX2_numberOf 4 = .ok (.istore_n 3, 1) := dk_62 (dk_at dksX2_numberOf_0 4 rfl rfl)
theorem dX2_numberOf_5 : decode cX2_numberOf 5 = .ok (.iload_n 3, 1) := dk_29 (dk_at dksX2_numberOf_0 5 rfl rfl)
theorem dX2_numberOf_6 : decode cX2_numberOf 6 = .ok (.ifCond .lt 39, 3) := dk_155 0 39 (dk_at dksX2_numberOf_0 6 rfl rfl)
theorem dX2_numberOf_9 : decode cX2_numberOf 9 = .ok (.lload_n 0, 1) := dk_30 (dk_at dksX2_numberOf_0 9 rfl rfl)
theorem dX2_numberOf_10 : decode cX2_numberOf 10 = .ok (.iload_n 3, 1) := dk_29 (dk_at dksX2_numberOf_0 10 rfl rfl)
theorem dX2_numberOf_11 : decode cX2_numberOf 11 = .ok (.lshr, 1) := dk_123 (dk_at dksX2_numberOf_0 11 rfl rfl)
theorem dX2_numberOf_12 : decode cX2_numberOf 12 = .ok (.ldc2_w 247, 3) := dk_20 0 247 (dk_at dksX2_numberOf_0 12 rfl rfl)
theorem dX2_numberOf_15 : decode cX2_numberOf 15 = .ok (.land, 1) := dk_127 (dk_at dksX2_numberOf_0 15 rfl rfl)
theorem dX2_numberOf_16 : decode cX2_numberOf 16 = .ok (.l2i, 1) := dk_136 (dk_at dksX2_numberOf_0 16 rfl rfl)
theorem dX2_numberOf_17 : decode cX2_numberOf 17 = .ok (.istore 4, 2) := dk_54 4 (dk_at dksX2_numberOf_0 17 rfl rfl)
theorem dX2_numberOf_19 : decode cX2_numberOf 19 = .ok (.iload 4, 2) := dk_21 4 (dk_at dksX2_numberOf_0 19 rfl rfl)
theorem dX2_numberOf_21 : decode cX2_numberOf 21 = .ok (.ifCond .ne 7, 3) := dk_154 0 7 (dk_at dksX2_numberOf_0 21 rfl rfl)
theorem dX2_numberOf_24 : decode cX2_numberOf 24 = .ok (.iload_n 2, 1) := dk_28 (dk_at dksX2_numberOf_1 0 rfl rfl)
theorem dX2_numberOf_25 : decode cX2_numberOf 25 = .ok (.goto 13, 3) := dk_167 0 13 (dk_at dksX2_numberOf_1 1 rfl rfl)
theorem dX2_numberOf_28 : decode cX2_numberOf 28 = .ok (.bipush 27, 2) := dk_16 27 (dk_at dksX2_numberOf_1 4 rfl rfl)
theorem dX2_numberOf_30 : decode cX2_numberOf 30 = .ok (.iload_n 2, 1) := dk_28 (dk_at dksX2_numberOf_1 6 rfl rfl)
theorem dX2_numberOf_31 : decode cX2_numberOf 31 = .ok (.imul, 1) := dk_104 (dk_at dksX2_numberOf_1 7 rfl rfl)
theorem dX2_numberOf_32 : decode cX2_numberOf 32 = .ok (.iload 4, 2) := dk_21 4 (dk_at dksX2_numberOf_1 8 rfl rfl)
theorem dX2_numberOf_34 : decode cX2_numberOf 34 = .ok (.iadd, 1) := dk_96 (dk_at dksX2_numberOf_1 10 rfl rfl)
theorem dX2_numberOf_35 : decode cX2_numberOf 35 = .ok (.bipush 96, 2) := dk_16 96 (dk_at dksX2_numberOf_1 11 rfl rfl)
theorem dX2_numberOf_37 : decode cX2_numberOf 37 = .ok (.isub, 1) := dk_100 (dk_at dksX2_numberOf_1 13 rfl rfl)
theorem dX2_numberOf_38 : decode cX2_numberOf 38 = .ok (.istore_n 2, 1) := dk_61 (dk_at dksX2_numberOf_1 14 rfl rfl)
theorem dX2_numberOf_39 : decode cX2_numberOf 39 = .ok (.iinc 3 (-8), 3) := dk_132 3 248 (dk_at dksX2_numberOf_1 15 rfl rfl)
theorem dX2_numberOf_42 : decode cX2_numberOf 42 = .ok (.goto (-37), 3) := dk_167 255 219 (dk_at dksX2_numberOf_1 18 rfl rfl)
theorem dX2_numberOf_45 : decode cX2_numberOf 45 = .ok (.iload_n 2, 1) := dk_28 (dk_at dksX2_numberOf_1 21 rfl rfl)
theorem dX2_numberOf_46 : decode cX2_numberOf 46 = .ok (.ireturn, 1) := dk_172 (dk_at dksX2_numberOf_1 22 rfl rfl)
abbrev cX2_runLine : ByteArray := prog_25_method_29_code
def yX2_runLine : MethodName := ⟨RX2, "runLine", "(JI)Z"⟩
def dkwX2_runLine_5 : List UInt8 := [6, 16, 40, 182, 1, 3, 4, 172]
abbrev dktX2_runLine_5 : List UInt8 := dkwX2_runLine_5 ++ []
def dkwX2_runLine_4 : List UInt8 := [180, 0, 38, 4, 46, 182, 1, 16, 154, 0, 5, 3, 172, 42, 180, 0, 38, 3, 21, 4, 79, 42, 3, 4]
abbrev dktX2_runLine_4 : List UInt8 := dkwX2_runLine_4 ++ dktX2_runLine_5
def dkwX2_runLine_3 : List UInt8 := [21, 4, 5, 162, 0, 11, 42, 5, 182, 1, 32, 153, 0, 23, 21, 4, 5, 164, 0, 19, 42, 5, 42]
abbrev dktX2_runLine_3 : List UInt8 := dkwX2_runLine_3 ++ dktX2_runLine_4
def dkwX2_runLine_2 : List UInt8 := [16, 20, 182, 1, 11, 153, 0, 52, 21, 4, 5, 159, 0, 12, 42, 4, 2, 182, 1, 16, 153, 0, 37]
abbrev dktX2_runLine_2 : List UInt8 := dkwX2_runLine_2 ++ dktX2_runLine_3
def dkwX2_runLine_1 : List UInt8 := [182, 1, 28, 42, 182, 0, 233, 42, 180, 0, 38, 5, 2, 79, 21, 4, 5, 160, 0, 14, 42, 4, 4]
abbrev dktX2_runLine_1 : List UInt8 := dkwX2_runLine_1 ++ dktX2_runLine_2
def dkwX2_runLine_0 : List UInt8 := [42, 31, 182, 1, 46, 54, 4, 21, 4, 2, 160, 0, 8, 42, 182, 0, 221, 172, 42, 3, 16, 40, 29]
abbrev dktX2_runLine_0 : List UInt8 := dkwX2_runLine_0 ++ dktX2_runLine_1
theorem dksX2_runLine_0 : cX2_runLine.data.toList.drop 0 = dktX2_runLine_0 := by decide +kernel
theorem dksX2_runLine_1 : cX2_runLine.data.toList.drop 23 = dktX2_runLine_1 := dk_seg dksX2_runLine_0 23 rfl rfl
theorem dksX2_runLine_2 : cX2_runLine.data.toList.drop 46 = dktX2_runLine_2 := dk_seg dksX2_runLine_1 23 rfl rfl
theorem dksX2_runLine_3 : cX2_runLine.data.toList.drop 69 = dktX2_runLine_3 := dk_seg dksX2_runLine_2 23 rfl rfl
theorem dksX2_runLine_4 : cX2_runLine.data.toList.drop 92 = dktX2_runLine_4 := dk_seg dksX2_runLine_3 23 rfl rfl
theorem dksX2_runLine_5 : cX2_runLine.data.toList.drop 116 = dktX2_runLine_5 := dk_seg dksX2_runLine_4 24 rfl rfl
theorem dX2_runLine_0 : decode cX2_runLine 0 = .ok (.aload_n 0, 1) := dk_42 (dk_at dksX2_runLine_0 0 rfl rfl)
theorem dX2_runLine_1 : decode cX2_runLine 1 = .ok (.lload_n 1, 1) := dk_31 (dk_at dksX2_runLine_0 1 rfl rfl)
theorem dX2_runLine_2 : decode cX2_runLine 2 = .ok (.invokevirtual 302, 3) := dk_182 1 46 (dk_at dksX2_runLine_0 2 rfl rfl)
theorem dX2_runLine_5 : decode cX2_runLine 5 = .ok (.istore 4, 2) := dk_54 4 (dk_at dksX2_runLine_0 5 rfl rfl)
theorem dX2_runLine_7 : decode cX2_runLine 7 = .ok (.iload 4, 2) := dk_21 4 (dk_at dksX2_runLine_0 7 rfl rfl)
theorem dX2_runLine_9 : decode cX2_runLine 9 = .ok (.iconst (-1), 1) := dk_2 (dk_at dksX2_runLine_0 9 rfl rfl)
theorem dX2_runLine_10 : decode cX2_runLine 10 = .ok (.if_icmp .ne 8, 3) := dk_160 0 8 (dk_at dksX2_runLine_0 10 rfl rfl)
theorem dX2_runLine_13 : decode cX2_runLine 13 = .ok (.aload_n 0, 1) := dk_42 (dk_at dksX2_runLine_0 13 rfl rfl)
theorem dX2_runLine_14 : decode cX2_runLine 14 = .ok (.invokevirtual 221, 3) := dk_182 0 221 (dk_at dksX2_runLine_0 14 rfl rfl)
theorem dX2_runLine_17 : decode cX2_runLine 17 = .ok (.ireturn, 1) := dk_172 (dk_at dksX2_runLine_0 17 rfl rfl)
theorem dX2_runLine_18 : decode cX2_runLine 18 = .ok (.aload_n 0, 1) := dk_42 (dk_at dksX2_runLine_0 18 rfl rfl)
theorem dX2_runLine_19 : decode cX2_runLine 19 = .ok (.iconst 0, 1) := dk_3 (dk_at dksX2_runLine_0 19 rfl rfl)
theorem dX2_runLine_20 : decode cX2_runLine 20 = .ok (.bipush 40, 2) := dk_16 40 (dk_at dksX2_runLine_0 20 rfl rfl)
theorem dX2_runLine_22 : decode cX2_runLine 22 = .ok (.iload_n 3, 1) := dk_29 (dk_at dksX2_runLine_0 22 rfl rfl)
theorem dX2_runLine_23 : decode cX2_runLine 23 = .ok (.invokevirtual 284, 3) := dk_182 1 28 (dk_at dksX2_runLine_1 0 rfl rfl)
theorem dX2_runLine_26 : decode cX2_runLine 26 = .ok (.aload_n 0, 1) := dk_42 (dk_at dksX2_runLine_1 3 rfl rfl)
theorem dX2_runLine_27 : decode cX2_runLine 27 = .ok (.invokevirtual 233, 3) := dk_182 0 233 (dk_at dksX2_runLine_1 4 rfl rfl)
theorem dX2_runLine_30 : decode cX2_runLine 30 = .ok (.aload_n 0, 1) := dk_42 (dk_at dksX2_runLine_1 7 rfl rfl)
theorem dX2_runLine_31 : decode cX2_runLine 31 = .ok (.getfield 38, 3) := dk_180 0 38 (dk_at dksX2_runLine_1 8 rfl rfl)
theorem dX2_runLine_34 : decode cX2_runLine 34 = .ok (.iconst 2, 1) := dk_5 (dk_at dksX2_runLine_1 11 rfl rfl)
theorem dX2_runLine_35 : decode cX2_runLine 35 = .ok (.iconst (-1), 1) := dk_2 (dk_at dksX2_runLine_1 12 rfl rfl)
theorem dX2_runLine_36 : decode cX2_runLine 36 = .ok (.iastore, 1) := dk_79 (dk_at dksX2_runLine_1 13 rfl rfl)
theorem dX2_runLine_37 : decode cX2_runLine 37 = .ok (.iload 4, 2) := dk_21 4 (dk_at dksX2_runLine_1 14 rfl rfl)
theorem dX2_runLine_39 : decode cX2_runLine 39 = .ok (.iconst 2, 1) := dk_5 (dk_at dksX2_runLine_1 16 rfl rfl)
theorem dX2_runLine_40 : decode cX2_runLine 40 = .ok (.if_icmp .ne 14, 3) := dk_160 0 14 (dk_at dksX2_runLine_1 17 rfl rfl)
theorem dX2_runLine_43 : decode cX2_runLine 43 = .ok (.aload_n 0, 1) := dk_42 (dk_at dksX2_runLine_1 20 rfl rfl)
theorem dX2_runLine_44 : decode cX2_runLine 44 = .ok (.iconst 1, 1) := dk_4 (dk_at dksX2_runLine_1 21 rfl rfl)
theorem dX2_runLine_45 : decode cX2_runLine 45 = .ok (.iconst 1, 1) := dk_4 (dk_at dksX2_runLine_1 22 rfl rfl)
theorem dX2_runLine_46 : decode cX2_runLine 46 = .ok (.bipush 20, 2) := dk_16 20 (dk_at dksX2_runLine_2 0 rfl rfl)
theorem dX2_runLine_48 : decode cX2_runLine 48 = .ok (.invokevirtual 267, 3) := dk_182 1 11 (dk_at dksX2_runLine_2 2 rfl rfl)
theorem dX2_runLine_51 : decode cX2_runLine 51 = .ok (.ifCond .eq 52, 3) := dk_153 0 52 (dk_at dksX2_runLine_2 5 rfl rfl)
theorem dX2_runLine_54 : decode cX2_runLine 54 = .ok (.iload 4, 2) := dk_21 4 (dk_at dksX2_runLine_2 8 rfl rfl)
theorem dX2_runLine_56 : decode cX2_runLine 56 = .ok (.iconst 2, 1) := dk_5 (dk_at dksX2_runLine_2 10 rfl rfl)
theorem dX2_runLine_57 : decode cX2_runLine 57 = .ok (.if_icmp .eq 12, 3) := dk_159 0 12 (dk_at dksX2_runLine_2 11 rfl rfl)
theorem dX2_runLine_60 : decode cX2_runLine 60 = .ok (.aload_n 0, 1) := dk_42 (dk_at dksX2_runLine_2 14 rfl rfl)
theorem dX2_runLine_61 : decode cX2_runLine 61 = .ok (.iconst 1, 1) := dk_4 (dk_at dksX2_runLine_2 15 rfl rfl)
theorem dX2_runLine_62 : decode cX2_runLine 62 = .ok (.iconst (-1), 1) := dk_2 (dk_at dksX2_runLine_2 16 rfl rfl)
theorem dX2_runLine_63 : decode cX2_runLine 63 = .ok (.invokevirtual 272, 3) := dk_182 1 16 (dk_at dksX2_runLine_2 17 rfl rfl)
theorem dX2_runLine_66 : decode cX2_runLine 66 = .ok (.ifCond .eq 37, 3) := dk_153 0 37 (dk_at dksX2_runLine_2 20 rfl rfl)
theorem dX2_runLine_69 : decode cX2_runLine 69 = .ok (.iload 4, 2) := dk_21 4 (dk_at dksX2_runLine_3 0 rfl rfl)
theorem dX2_runLine_71 : decode cX2_runLine 71 = .ok (.iconst 2, 1) := dk_5 (dk_at dksX2_runLine_3 2 rfl rfl)
theorem dX2_runLine_72 : decode cX2_runLine 72 = .ok (.if_icmp .ge 11, 3) := dk_162 0 11 (dk_at dksX2_runLine_3 3 rfl rfl)
theorem dX2_runLine_75 : decode cX2_runLine 75 = .ok (.aload_n 0, 1) := dk_42 (dk_at dksX2_runLine_3 6 rfl rfl)
theorem dX2_runLine_76 : decode cX2_runLine 76 = .ok (.iconst 2, 1) := dk_5 (dk_at dksX2_runLine_3 7 rfl rfl)
theorem dX2_runLine_77 : decode cX2_runLine 77 = .ok (.invokevirtual 288, 3) := dk_182 1 32 (dk_at dksX2_runLine_3 8 rfl rfl)
theorem dX2_runLine_80 : decode cX2_runLine 80 = .ok (.ifCond .eq 23, 3) := dk_153 0 23 (dk_at dksX2_runLine_3 11 rfl rfl)
theorem dX2_runLine_83 : decode cX2_runLine 83 = .ok (.iload 4, 2) := dk_21 4 (dk_at dksX2_runLine_3 14 rfl rfl)
theorem dX2_runLine_85 : decode cX2_runLine 85 = .ok (.iconst 2, 1) := dk_5 (dk_at dksX2_runLine_3 16 rfl rfl)
theorem dX2_runLine_86 : decode cX2_runLine 86 = .ok (.if_icmp .le 19, 3) := dk_164 0 19 (dk_at dksX2_runLine_3 17 rfl rfl)
theorem dX2_runLine_89 : decode cX2_runLine 89 = .ok (.aload_n 0, 1) := dk_42 (dk_at dksX2_runLine_3 20 rfl rfl)
theorem dX2_runLine_90 : decode cX2_runLine 90 = .ok (.iconst 2, 1) := dk_5 (dk_at dksX2_runLine_3 21 rfl rfl)
theorem dX2_runLine_91 : decode cX2_runLine 91 = .ok (.aload_n 0, 1) := dk_42 (dk_at dksX2_runLine_3 22 rfl rfl)
theorem dX2_runLine_92 : decode cX2_runLine 92 = .ok (.getfield 38, 3) := dk_180 0 38 (dk_at dksX2_runLine_4 0 rfl rfl)
theorem dX2_runLine_95 : decode cX2_runLine 95 = .ok (.iconst 1, 1) := dk_4 (dk_at dksX2_runLine_4 3 rfl rfl)
theorem dX2_runLine_96 : decode cX2_runLine 96 = .ok (.iaload, 1) := dk_46 (dk_at dksX2_runLine_4 4 rfl rfl)
theorem dX2_runLine_97 : decode cX2_runLine 97 = .ok (.invokevirtual 272, 3) := dk_182 1 16 (dk_at dksX2_runLine_4 5 rfl rfl)
theorem dX2_runLine_100 : decode cX2_runLine 100 = .ok (.ifCond .ne 5, 3) := dk_154 0 5 (dk_at dksX2_runLine_4 8 rfl rfl)
theorem dX2_runLine_103 : decode cX2_runLine 103 = .ok (.iconst 0, 1) := dk_3 (dk_at dksX2_runLine_4 11 rfl rfl)
theorem dX2_runLine_104 : decode cX2_runLine 104 = .ok (.ireturn, 1) := dk_172 (dk_at dksX2_runLine_4 12 rfl rfl)
theorem dX2_runLine_105 : decode cX2_runLine 105 = .ok (.aload_n 0, 1) := dk_42 (dk_at dksX2_runLine_4 13 rfl rfl)
theorem dX2_runLine_106 : decode cX2_runLine 106 = .ok (.getfield 38, 3) := dk_180 0 38 (dk_at dksX2_runLine_4 14 rfl rfl)
theorem dX2_runLine_109 : decode cX2_runLine 109 = .ok (.iconst 0, 1) := dk_3 (dk_at dksX2_runLine_4 17 rfl rfl)
theorem dX2_runLine_110 : decode cX2_runLine 110 = .ok (.iload 4, 2) := dk_21 4 (dk_at dksX2_runLine_4 18 rfl rfl)
theorem dX2_runLine_112 : decode cX2_runLine 112 = .ok (.iastore, 1) := dk_79 (dk_at dksX2_runLine_4 20 rfl rfl)
theorem dX2_runLine_113 : decode cX2_runLine 113 = .ok (.aload_n 0, 1) := dk_42 (dk_at dksX2_runLine_4 21 rfl rfl)
theorem dX2_runLine_114 : decode cX2_runLine 114 = .ok (.iconst 0, 1) := dk_3 (dk_at dksX2_runLine_4 22 rfl rfl)
theorem dX2_runLine_115 : decode cX2_runLine 115 = .ok (.iconst 1, 1) := dk_4 (dk_at dksX2_runLine_4 23 rfl rfl)
theorem dX2_runLine_116 : decode cX2_runLine 116 = .ok (.iconst 3, 1) := dk_6 (dk_at dksX2_runLine_5 0 rfl rfl)
theorem dX2_runLine_117 : decode cX2_runLine 117 = .ok (.bipush 40, 2) := dk_16 40 (dk_at dksX2_runLine_5 1 rfl rfl)
theorem dX2_runLine_119 : decode cX2_runLine 119 = .ok (.invokevirtual 259, 3) := dk_182 1 3 (dk_at dksX2_runLine_5 3 rfl rfl)
theorem dX2_runLine_122 : decode cX2_runLine 122 = .ok (.iconst 1, 1) := dk_4 (dk_at dksX2_runLine_5 6 rfl rfl)
theorem dX2_runLine_123 : decode cX2_runLine 123 = .ok (.ireturn, 1) := dk_172 (dk_at dksX2_runLine_5 7 rfl rfl)
abbrev cX2_deedBy : ByteArray := prog_25_method_28_code
def yX2_deedBy : MethodName := ⟨RX2, "deedBy", "(J)I"⟩
def dkwX2_deedBy_2 : List UInt8 := [31, 20, 1, 44, 148, 154, 0, 7, 7, 167, 0, 4, 2, 172]
abbrev dktX2_deedBy_2 : List UInt8 := dkwX2_deedBy_2 ++ []
def dkwX2_deedBy_1 : List UInt8 := [31, 20, 1, 40, 148, 154, 0, 7, 5, 167, 0, 28, 31, 20, 1, 42, 148, 154, 0, 7, 6, 167, 0, 16]
abbrev dktX2_deedBy_1 : List UInt8 := dkwX2_deedBy_1 ++ dktX2_deedBy_2
def dkwX2_deedBy_0 : List UInt8 := [31, 20, 1, 36, 148, 154, 0, 7, 3, 167, 0, 52, 31, 20, 1, 38, 148, 154, 0, 7, 4, 167, 0, 40]
abbrev dktX2_deedBy_0 : List UInt8 := dkwX2_deedBy_0 ++ dktX2_deedBy_1
theorem dksX2_deedBy_0 : cX2_deedBy.data.toList.drop 0 = dktX2_deedBy_0 := by decide +kernel
theorem dksX2_deedBy_1 : cX2_deedBy.data.toList.drop 24 = dktX2_deedBy_1 := dk_seg dksX2_deedBy_0 24 rfl rfl
theorem dksX2_deedBy_2 : cX2_deedBy.data.toList.drop 48 = dktX2_deedBy_2 := dk_seg dksX2_deedBy_1 24 rfl rfl
theorem dX2_deedBy_0 : decode cX2_deedBy 0 = .ok (.lload_n 1, 1) := dk_31 (dk_at dksX2_deedBy_0 0 rfl rfl)
theorem dX2_deedBy_1 : decode cX2_deedBy 1 = .ok (.ldc2_w 292, 3) := dk_20 1 36 (dk_at dksX2_deedBy_0 1 rfl rfl)
theorem dX2_deedBy_4 : decode cX2_deedBy 4 = .ok (.lcmp, 1) := dk_148 (dk_at dksX2_deedBy_0 4 rfl rfl)
theorem dX2_deedBy_5 : decode cX2_deedBy 5 = .ok (.ifCond .ne 7, 3) := dk_154 0 7 (dk_at dksX2_deedBy_0 5 rfl rfl)
theorem dX2_deedBy_8 : decode cX2_deedBy 8 = .ok (.iconst 0, 1) := dk_3 (dk_at dksX2_deedBy_0 8 rfl rfl)
theorem dX2_deedBy_9 : decode cX2_deedBy 9 = .ok (.goto 52, 3) := dk_167 0 52 (dk_at dksX2_deedBy_0 9 rfl rfl)
theorem dX2_deedBy_12 : decode cX2_deedBy 12 = .ok (.lload_n 1, 1) := dk_31 (dk_at dksX2_deedBy_0 12 rfl rfl)
theorem dX2_deedBy_13 : decode cX2_deedBy 13 = .ok (.ldc2_w 294, 3) := dk_20 1 38 (dk_at dksX2_deedBy_0 13 rfl rfl)
theorem dX2_deedBy_16 : decode cX2_deedBy 16 = .ok (.lcmp, 1) := dk_148 (dk_at dksX2_deedBy_0 16 rfl rfl)
theorem dX2_deedBy_17 : decode cX2_deedBy 17 = .ok (.ifCond .ne 7, 3) := dk_154 0 7 (dk_at dksX2_deedBy_0 17 rfl rfl)
theorem dX2_deedBy_20 : decode cX2_deedBy 20 = .ok (.iconst 1, 1) := dk_4 (dk_at dksX2_deedBy_0 20 rfl rfl)
theorem dX2_deedBy_21 : decode cX2_deedBy 21 = .ok (.goto 40, 3) := dk_167 0 40 (dk_at dksX2_deedBy_0 21 rfl rfl)
theorem dX2_deedBy_24 : decode cX2_deedBy 24 = .ok (.lload_n 1, 1) := dk_31 (dk_at dksX2_deedBy_1 0 rfl rfl)
theorem dX2_deedBy_25 : decode cX2_deedBy 25 = .ok (.ldc2_w 296, 3) := dk_20 1 40 (dk_at dksX2_deedBy_1 1 rfl rfl)
theorem dX2_deedBy_28 : decode cX2_deedBy 28 = .ok (.lcmp, 1) := dk_148 (dk_at dksX2_deedBy_1 4 rfl rfl)
theorem dX2_deedBy_29 : decode cX2_deedBy 29 = .ok (.ifCond .ne 7, 3) := dk_154 0 7 (dk_at dksX2_deedBy_1 5 rfl rfl)
theorem dX2_deedBy_32 : decode cX2_deedBy 32 = .ok (.iconst 2, 1) := dk_5 (dk_at dksX2_deedBy_1 8 rfl rfl)
theorem dX2_deedBy_33 : decode cX2_deedBy 33 = .ok (.goto 28, 3) := dk_167 0 28 (dk_at dksX2_deedBy_1 9 rfl rfl)
theorem dX2_deedBy_36 : decode cX2_deedBy 36 = .ok (.lload_n 1, 1) := dk_31 (dk_at dksX2_deedBy_1 12 rfl rfl)
theorem dX2_deedBy_37 : decode cX2_deedBy 37 = .ok (.ldc2_w 298, 3) := dk_20 1 42 (dk_at dksX2_deedBy_1 13 rfl rfl)
theorem dX2_deedBy_40 : decode cX2_deedBy 40 = .ok (.lcmp, 1) := dk_148 (dk_at dksX2_deedBy_1 16 rfl rfl)
theorem dX2_deedBy_41 : decode cX2_deedBy 41 = .ok (.ifCond .ne 7, 3) := dk_154 0 7 (dk_at dksX2_deedBy_1 17 rfl rfl)
theorem dX2_deedBy_44 : decode cX2_deedBy 44 = .ok (.iconst 3, 1) := dk_6 (dk_at dksX2_deedBy_1 20 rfl rfl)
theorem dX2_deedBy_45 : decode cX2_deedBy 45 = .ok (.goto 16, 3) := dk_167 0 16 (dk_at dksX2_deedBy_1 21 rfl rfl)
theorem dX2_deedBy_48 : decode cX2_deedBy 48 = .ok (.lload_n 1, 1) := dk_31 (dk_at dksX2_deedBy_2 0 rfl rfl)
theorem dX2_deedBy_49 : decode cX2_deedBy 49 = .ok (.ldc2_w 300, 3) := dk_20 1 44 (dk_at dksX2_deedBy_2 1 rfl rfl)
theorem dX2_deedBy_52 : decode cX2_deedBy 52 = .ok (.lcmp, 1) := dk_148 (dk_at dksX2_deedBy_2 4 rfl rfl)
theorem dX2_deedBy_53 : decode cX2_deedBy 53 = .ok (.ifCond .ne 7, 3) := dk_154 0 7 (dk_at dksX2_deedBy_2 5 rfl rfl)
theorem dX2_deedBy_56 : decode cX2_deedBy 56 = .ok (.iconst 4, 1) := dk_7 (dk_at dksX2_deedBy_2 8 rfl rfl)
theorem dX2_deedBy_57 : decode cX2_deedBy 57 = .ok (.goto 4, 3) := dk_167 0 4 (dk_at dksX2_deedBy_2 9 rfl rfl)
theorem dX2_deedBy_60 : decode cX2_deedBy 60 = .ok (.iconst (-1), 1) := dk_2 (dk_at dksX2_deedBy_2 12 rfl rfl)
theorem dX2_deedBy_61 : decode cX2_deedBy 61 = .ok (.ireturn, 1) := dk_172 (dk_at dksX2_deedBy_2 13 rfl rfl)
abbrev cX2_logLine : ByteArray := prog_25_method_30_code
def yX2_logLine : MethodName := ⟨RX2, "logLine", "(JI)Z"⟩
def dkwX2_logLine_3 : List UInt8 := [154, 0, 5, 3, 172, 42, 3, 4, 5, 16, 8, 182, 1, 3, 4, 172]
abbrev dktX2_logLine_3 : List UInt8 := dkwX2_logLine_3 ++ []
def dkwX2_logLine_2 : List UInt8 := [182, 1, 11, 153, 0, 22, 31, 20, 1, 49, 148, 154, 0, 16, 42, 4, 3, 16, 99, 182, 1, 11]
abbrev dktX2_logLine_2 : List UInt8 := dkwX2_logLine_2 ++ dktX2_logLine_3
def dkwX2_logLine_1 : List UInt8 := [16, 8, 29, 182, 1, 28, 42, 182, 0, 233, 42, 180, 0, 38, 4, 2, 79, 42, 3, 3, 16, 39]
abbrev dktX2_logLine_1 : List UInt8 := dkwX2_logLine_1 ++ dktX2_logLine_2
def dkwX2_logLine_0 : List UInt8 := [31, 20, 1, 49, 148, 153, 0, 16, 31, 20, 1, 51, 148, 153, 0, 8, 42, 182, 0, 221, 172, 42, 3]
abbrev dktX2_logLine_0 : List UInt8 := dkwX2_logLine_0 ++ dktX2_logLine_1
theorem dksX2_logLine_0 : cX2_logLine.data.toList.drop 0 = dktX2_logLine_0 := by decide +kernel
theorem dksX2_logLine_1 : cX2_logLine.data.toList.drop 23 = dktX2_logLine_1 := dk_seg dksX2_logLine_0 23 rfl rfl
theorem dksX2_logLine_2 : cX2_logLine.data.toList.drop 45 = dktX2_logLine_2 := dk_seg dksX2_logLine_1 22 rfl rfl
theorem dksX2_logLine_3 : cX2_logLine.data.toList.drop 67 = dktX2_logLine_3 := dk_seg dksX2_logLine_2 22 rfl rfl
theorem dX2_logLine_0 : decode cX2_logLine 0 = .ok (.lload_n 1, 1) := dk_31 (dk_at dksX2_logLine_0 0 rfl rfl)
theorem dX2_logLine_1 : decode cX2_logLine 1 = .ok (.ldc2_w 305, 3) := dk_20 1 49 (dk_at dksX2_logLine_0 1 rfl rfl)
theorem dX2_logLine_4 : decode cX2_logLine 4 = .ok (.lcmp, 1) := dk_148 (dk_at dksX2_logLine_0 4 rfl rfl)
theorem dX2_logLine_5 : decode cX2_logLine 5 = .ok (.ifCond .eq 16, 3) := dk_153 0 16 (dk_at dksX2_logLine_0 5 rfl rfl)
theorem dX2_logLine_8 : decode cX2_logLine 8 = .ok (.lload_n 1, 1) := dk_31 (dk_at dksX2_logLine_0 8 rfl rfl)
theorem dX2_logLine_9 : decode cX2_logLine 9 = .ok (.ldc2_w 307, 3) := dk_20 1 51 (dk_at dksX2_logLine_0 9 rfl rfl)
theorem dX2_logLine_12 : decode cX2_logLine 12 = .ok (.lcmp, 1) := dk_148 (dk_at dksX2_logLine_0 12 rfl rfl)
theorem dX2_logLine_13 : decode cX2_logLine 13 = .ok (.ifCond .eq 8, 3) := dk_153 0 8 (dk_at dksX2_logLine_0 13 rfl rfl)
theorem dX2_logLine_16 : decode cX2_logLine 16 = .ok (.aload_n 0, 1) := dk_42 (dk_at dksX2_logLine_0 16 rfl rfl)
theorem dX2_logLine_17 : decode cX2_logLine 17 = .ok (.invokevirtual 221, 3) := dk_182 0 221 (dk_at dksX2_logLine_0 17 rfl rfl)
theorem dX2_logLine_20 : decode cX2_logLine 20 = .ok (.ireturn, 1) := dk_172 (dk_at dksX2_logLine_0 20 rfl rfl)
theorem dX2_logLine_21 : decode cX2_logLine 21 = .ok (.aload_n 0, 1) := dk_42 (dk_at dksX2_logLine_0 21 rfl rfl)
theorem dX2_logLine_22 : decode cX2_logLine 22 = .ok (.iconst 0, 1) := dk_3 (dk_at dksX2_logLine_0 22 rfl rfl)
theorem dX2_logLine_23 : decode cX2_logLine 23 = .ok (.bipush 8, 2) := dk_16 8 (dk_at dksX2_logLine_1 0 rfl rfl)
theorem dX2_logLine_25 : decode cX2_logLine 25 = .ok (.iload_n 3, 1) := dk_29 (dk_at dksX2_logLine_1 2 rfl rfl)
theorem dX2_logLine_26 : decode cX2_logLine 26 = .ok (.invokevirtual 284, 3) := dk_182 1 28 (dk_at dksX2_logLine_1 3 rfl rfl)
theorem dX2_logLine_29 : decode cX2_logLine 29 = .ok (.aload_n 0, 1) := dk_42 (dk_at dksX2_logLine_1 6 rfl rfl)
theorem dX2_logLine_30 : decode cX2_logLine 30 = .ok (.invokevirtual 233, 3) := dk_182 0 233 (dk_at dksX2_logLine_1 7 rfl rfl)
theorem dX2_logLine_33 : decode cX2_logLine 33 = .ok (.aload_n 0, 1) := dk_42 (dk_at dksX2_logLine_1 10 rfl rfl)
theorem dX2_logLine_34 : decode cX2_logLine 34 = .ok (.getfield 38, 3) := dk_180 0 38 (dk_at dksX2_logLine_1 11 rfl rfl)
theorem dX2_logLine_37 : decode cX2_logLine 37 = .ok (.iconst 1, 1) := dk_4 (dk_at dksX2_logLine_1 14 rfl rfl)
theorem dX2_logLine_38 : decode cX2_logLine 38 = .ok (.iconst (-1), 1) := dk_2 (dk_at dksX2_logLine_1 15 rfl rfl)
theorem dX2_logLine_39 : decode cX2_logLine 39 = .ok (.iastore, 1) := dk_79 (dk_at dksX2_logLine_1 16 rfl rfl)
theorem dX2_logLine_40 : decode cX2_logLine 40 = .ok (.aload_n 0, 1) := dk_42 (dk_at dksX2_logLine_1 17 rfl rfl)
theorem dX2_logLine_41 : decode cX2_logLine 41 = .ok (.iconst 0, 1) := dk_3 (dk_at dksX2_logLine_1 18 rfl rfl)
theorem dX2_logLine_42 : decode cX2_logLine 42 = .ok (.iconst 0, 1) := dk_3 (dk_at dksX2_logLine_1 19 rfl rfl)
theorem dX2_logLine_43 : decode cX2_logLine 43 = .ok (.bipush 39, 2) := dk_16 39 (dk_at dksX2_logLine_1 20 rfl rfl)
theorem dX2_logLine_45 : decode cX2_logLine 45 = .ok (.invokevirtual 267, 3) := dk_182 1 11 (dk_at dksX2_logLine_2 0 rfl rfl)
theorem dX2_logLine_48 : decode cX2_logLine 48 = .ok (.ifCond .eq 22, 3) := dk_153 0 22 (dk_at dksX2_logLine_2 3 rfl rfl)
theorem dX2_logLine_51 : decode cX2_logLine 51 = .ok (.lload_n 1, 1) := dk_31 (dk_at dksX2_logLine_2 6 rfl rfl)
theorem dX2_logLine_52 : decode cX2_logLine 52 = .ok (.ldc2_w 305, 3) := dk_20 1 49 (dk_at dksX2_logLine_2 7 rfl rfl)
theorem dX2_logLine_55 : decode cX2_logLine 55 = .ok (.lcmp, 1) := dk_148 (dk_at dksX2_logLine_2 10 rfl rfl)
theorem dX2_logLine_56 : decode cX2_logLine 56 = .ok (.ifCond .ne 16, 3) := dk_154 0 16 (dk_at dksX2_logLine_2 11 rfl rfl)
theorem dX2_logLine_59 : decode cX2_logLine 59 = .ok (.aload_n 0, 1) := dk_42 (dk_at dksX2_logLine_2 14 rfl rfl)
theorem dX2_logLine_60 : decode cX2_logLine 60 = .ok (.iconst 1, 1) := dk_4 (dk_at dksX2_logLine_2 15 rfl rfl)
theorem dX2_logLine_61 : decode cX2_logLine 61 = .ok (.iconst 0, 1) := dk_3 (dk_at dksX2_logLine_2 16 rfl rfl)
theorem dX2_logLine_62 : decode cX2_logLine 62 = .ok (.bipush 99, 2) := dk_16 99 (dk_at dksX2_logLine_2 17 rfl rfl)
theorem dX2_logLine_64 : decode cX2_logLine 64 = .ok (.invokevirtual 267, 3) := dk_182 1 11 (dk_at dksX2_logLine_2 19 rfl rfl)
theorem dX2_logLine_67 : decode cX2_logLine 67 = .ok (.ifCond .ne 5, 3) := dk_154 0 5 (dk_at dksX2_logLine_3 0 rfl rfl)
theorem dX2_logLine_70 : decode cX2_logLine 70 = .ok (.iconst 0, 1) := dk_3 (dk_at dksX2_logLine_3 3 rfl rfl)
theorem dX2_logLine_71 : decode cX2_logLine 71 = .ok (.ireturn, 1) := dk_172 (dk_at dksX2_logLine_3 4 rfl rfl)
theorem dX2_logLine_72 : decode cX2_logLine 72 = .ok (.aload_n 0, 1) := dk_42 (dk_at dksX2_logLine_3 5 rfl rfl)
theorem dX2_logLine_73 : decode cX2_logLine 73 = .ok (.iconst 0, 1) := dk_3 (dk_at dksX2_logLine_3 6 rfl rfl)
theorem dX2_logLine_74 : decode cX2_logLine 74 = .ok (.iconst 1, 1) := dk_4 (dk_at dksX2_logLine_3 7 rfl rfl)
theorem dX2_logLine_75 : decode cX2_logLine 75 = .ok (.iconst 2, 1) := dk_5 (dk_at dksX2_logLine_3 8 rfl rfl)
theorem dX2_logLine_76 : decode cX2_logLine 76 = .ok (.bipush 8, 2) := dk_16 8 (dk_at dksX2_logLine_3 9 rfl rfl)
theorem dX2_logLine_78 : decode cX2_logLine 78 = .ok (.invokevirtual 259, 3) := dk_182 1 3 (dk_at dksX2_logLine_3 11 rfl rfl)
theorem dX2_logLine_81 : decode cX2_logLine 81 = .ok (.iconst 1, 1) := dk_4 (dk_at dksX2_logLine_3 14 rfl rfl)
theorem dX2_logLine_82 : decode cX2_logLine 82 = .ok (.ireturn, 1) := dk_172 (dk_at dksX2_logLine_3 15 rfl rfl)
abbrev cX2_keep : ByteArray := prog_25_method_33_code
def yX2_keep : MethodName := ⟨RX2, "keep", "([III)V"⟩
def dkwX2_keep_1 : List UInt8 := [132, 4, 1, 167, 255, 232, 177]
abbrev dktX2_keep_1 : List UInt8 := dkwX2_keep_1 ++ []
def dkwX2_keep_0 : List UInt8 := [3, 54, 4, 21, 4, 28, 162, 0, 24, 43, 28, 29, 104, 21, 4, 96, 42, 180, 0, 35, 21, 4, 46, 79]
abbrev dktX2_keep_0 : List UInt8 := dkwX2_keep_0 ++ dktX2_keep_1
theorem dksX2_keep_0 : cX2_keep.data.toList.drop 0 = dktX2_keep_0 := by decide +kernel
theorem dksX2_keep_1 : cX2_keep.data.toList.drop 24 = dktX2_keep_1 := dk_seg dksX2_keep_0 24 rfl rfl
theorem dX2_keep_0 : decode cX2_keep 0 = .ok (.iconst 0, 1) := dk_3 (dk_at dksX2_keep_0 0 rfl rfl)
theorem dX2_keep_1 : decode cX2_keep 1 = .ok (.istore 4, 2) := dk_54 4 (dk_at dksX2_keep_0 1 rfl rfl)
theorem dX2_keep_3 : decode cX2_keep 3 = .ok (.iload 4, 2) := dk_21 4 (dk_at dksX2_keep_0 3 rfl rfl)
theorem dX2_keep_5 : decode cX2_keep 5 = .ok (.iload_n 2, 1) := dk_28 (dk_at dksX2_keep_0 5 rfl rfl)
theorem dX2_keep_6 : decode cX2_keep 6 = .ok (.if_icmp .ge 24, 3) := dk_162 0 24 (dk_at dksX2_keep_0 6 rfl rfl)
theorem dX2_keep_9 : decode cX2_keep 9 = .ok (.aload_n 1, 1) := dk_43 (dk_at dksX2_keep_0 9 rfl rfl)
theorem dX2_keep_10 : decode cX2_keep 10 = .ok (.iload_n 2, 1) := dk_28 (dk_at dksX2_keep_0 10 rfl rfl)
theorem dX2_keep_11 : decode cX2_keep 11 = .ok (.iload_n 3, 1) := dk_29 (dk_at dksX2_keep_0 11 rfl rfl)
theorem dX2_keep_12 : decode cX2_keep 12 = .ok (.imul, 1) := dk_104 (dk_at dksX2_keep_0 12 rfl rfl)
theorem dX2_keep_13 : decode cX2_keep 13 = .ok (.iload 4, 2) := dk_21 4 (dk_at dksX2_keep_0 13 rfl rfl)
theorem dX2_keep_15 : decode cX2_keep 15 = .ok (.iadd, 1) := dk_96 (dk_at dksX2_keep_0 15 rfl rfl)
theorem dX2_keep_16 : decode cX2_keep 16 = .ok (.aload_n 0, 1) := dk_42 (dk_at dksX2_keep_0 16 rfl rfl)
theorem dX2_keep_17 : decode cX2_keep 17 = .ok (.getfield 35, 3) := dk_180 0 35 (dk_at dksX2_keep_0 17 rfl rfl)
theorem dX2_keep_20 : decode cX2_keep 20 = .ok (.iload 4, 2) := dk_21 4 (dk_at dksX2_keep_0 20 rfl rfl)
theorem dX2_keep_22 : decode cX2_keep 22 = .ok (.iaload, 1) := dk_46 (dk_at dksX2_keep_0 22 rfl rfl)
theorem dX2_keep_23 : decode cX2_keep 23 = .ok (.iastore, 1) := dk_79 (dk_at dksX2_keep_0 23 rfl rfl)
theorem dX2_keep_24 : decode cX2_keep 24 = .ok (.iinc 4 1, 3) := dk_132 4 1 (dk_at dksX2_keep_1 0 rfl rfl)
theorem dX2_keep_27 : decode cX2_keep 27 = .ok (.goto (-24), 3) := dk_167 255 232 (dk_at dksX2_keep_1 3 rfl rfl)
theorem dX2_keep_30 : decode cX2_keep 30 = .ok (.return_, 1) := dk_177 (dk_at dksX2_keep_1 6 rfl rfl)
abbrev cX2_fault : ByteArray := prog_25_method_35_code
def yX2_fault : MethodName := ⟨RX2, "fault", "(I)I"⟩
def dkwX2_fault_1 : List UInt8 := [180, 0, 20, 3, 46, 167, 0, 4, 2, 172]
abbrev dktX2_fault_1 : List UInt8 := dkwX2_fault_1 ++ []
def dkwX2_fault_0 : List UInt8 := [42, 3, 181, 0, 169, 27, 154, 0, 12, 42, 180, 0, 17, 3, 46, 167, 0, 18, 27, 4, 160, 0, 12, 42]
abbrev dktX2_fault_0 : List UInt8 := dkwX2_fault_0 ++ dktX2_fault_1
theorem dksX2_fault_0 : cX2_fault.data.toList.drop 0 = dktX2_fault_0 := by decide +kernel
theorem dksX2_fault_1 : cX2_fault.data.toList.drop 24 = dktX2_fault_1 := dk_seg dksX2_fault_0 24 rfl rfl
theorem dX2_fault_0 : decode cX2_fault 0 = .ok (.aload_n 0, 1) := dk_42 (dk_at dksX2_fault_0 0 rfl rfl)
theorem dX2_fault_1 : decode cX2_fault 1 = .ok (.iconst 0, 1) := dk_3 (dk_at dksX2_fault_0 1 rfl rfl)
theorem dX2_fault_2 : decode cX2_fault 2 = .ok (.putfield 169, 3) := dk_181 0 169 (dk_at dksX2_fault_0 2 rfl rfl)
theorem dX2_fault_5 : decode cX2_fault 5 = .ok (.iload_n 1, 1) := dk_27 (dk_at dksX2_fault_0 5 rfl rfl)
theorem dX2_fault_6 : decode cX2_fault 6 = .ok (.ifCond .ne 12, 3) := dk_154 0 12 (dk_at dksX2_fault_0 6 rfl rfl)
theorem dX2_fault_9 : decode cX2_fault 9 = .ok (.aload_n 0, 1) := dk_42 (dk_at dksX2_fault_0 9 rfl rfl)
theorem dX2_fault_10 : decode cX2_fault 10 = .ok (.getfield 17, 3) := dk_180 0 17 (dk_at dksX2_fault_0 10 rfl rfl)
theorem dX2_fault_13 : decode cX2_fault 13 = .ok (.iconst 0, 1) := dk_3 (dk_at dksX2_fault_0 13 rfl rfl)
theorem dX2_fault_14 : decode cX2_fault 14 = .ok (.iaload, 1) := dk_46 (dk_at dksX2_fault_0 14 rfl rfl)
theorem dX2_fault_15 : decode cX2_fault 15 = .ok (.goto 18, 3) := dk_167 0 18 (dk_at dksX2_fault_0 15 rfl rfl)
theorem dX2_fault_18 : decode cX2_fault 18 = .ok (.iload_n 1, 1) := dk_27 (dk_at dksX2_fault_0 18 rfl rfl)
theorem dX2_fault_19 : decode cX2_fault 19 = .ok (.iconst 1, 1) := dk_4 (dk_at dksX2_fault_0 19 rfl rfl)
theorem dX2_fault_20 : decode cX2_fault 20 = .ok (.if_icmp .ne 12, 3) := dk_160 0 12 (dk_at dksX2_fault_0 20 rfl rfl)
theorem dX2_fault_23 : decode cX2_fault 23 = .ok (.aload_n 0, 1) := dk_42 (dk_at dksX2_fault_0 23 rfl rfl)
theorem dX2_fault_24 : decode cX2_fault 24 = .ok (.getfield 20, 3) := dk_180 0 20 (dk_at dksX2_fault_1 0 rfl rfl)
theorem dX2_fault_27 : decode cX2_fault 27 = .ok (.iconst 0, 1) := dk_3 (dk_at dksX2_fault_1 3 rfl rfl)
theorem dX2_fault_28 : decode cX2_fault 28 = .ok (.iaload, 1) := dk_46 (dk_at dksX2_fault_1 4 rfl rfl)
theorem dX2_fault_29 : decode cX2_fault 29 = .ok (.goto 4, 3) := dk_167 0 4 (dk_at dksX2_fault_1 5 rfl rfl)
theorem dX2_fault_32 : decode cX2_fault 32 = .ok (.iconst (-1), 1) := dk_2 (dk_at dksX2_fault_1 8 rfl rfl)
theorem dX2_fault_33 : decode cX2_fault 33 = .ok (.ireturn, 1) := dk_172 (dk_at dksX2_fault_1 9 rfl rfl)
abbrev cX2_net : ByteArray := prog_25_method_54_code
def yX2_net : MethodName := ⟨RX2, "net", "(II)I"⟩
def dkwX2_net_8 : List UInt8 := [112, 182, 1, 125, 167, 0, 5, 16, 254, 172]
abbrev dktX2_net_8 : List UInt8 := dkwX2_net_8 ++ []
def dkwX2_net_7 : List UInt8 := [184, 0, 181, 154, 0, 16, 28, 17, 1, 44, 17, 1, 103, 184, 0, 181, 153, 0, 15, 42, 28, 28, 16, 20]
abbrev dktX2_net_7 : List UInt8 := dkwX2_net_7 ++ dktX2_net_8
def dkwX2_net_6 : List UInt8 := [42, 180, 0, 41, 16, 6, 29, 104, 21, 4, 96, 46, 5, 182, 1, 92, 172, 28, 17, 0, 200, 17, 1, 23]
abbrev dktX2_net_6 : List UInt8 := dkwX2_net_6 ++ dktX2_net_7
def dkwX2_net_5 : List UInt8 := [182, 1, 122, 42, 180, 0, 41, 16, 6, 29, 104, 21, 4, 96, 46, 2, 160, 0, 7, 2, 167, 0, 20, 42]
abbrev dktX2_net_5 : List UInt8 := dkwX2_net_5 ++ dktX2_net_6
def dkwX2_net_4 : List UInt8 := [54, 4, 42, 29, 182, 1, 119, 153, 0, 12, 42, 21, 4, 182, 1, 119, 154, 0, 6, 16, 254, 172, 42, 2]
abbrev dktX2_net_4 : List UInt8 := dkwX2_net_4 ++ dktX2_net_5
def dkwX2_net_3 : List UInt8 := [16, 100, 17, 0, 199, 184, 0, 181, 153, 0, 80, 28, 16, 100, 100, 16, 10, 108, 62, 28, 16, 10, 112]
abbrev dktX2_net_3 : List UInt8 := dkwX2_net_3 ++ dktX2_net_4
def dkwX2_net_2 : List UInt8 := [100, 182, 1, 119, 153, 0, 16, 42, 8, 28, 96, 16, 10, 100, 182, 1, 79, 167, 0, 5, 16, 254, 172, 28]
abbrev dktX2_net_2 : List UInt8 := dkwX2_net_2 ++ dktX2_net_3
def dkwX2_net_1 : List UInt8 := [153, 0, 9, 42, 28, 182, 1, 79, 172, 28, 16, 10, 16, 15, 184, 0, 181, 153, 0, 30, 42, 28, 16, 10]
abbrev dktX2_net_1 : List UInt8 := dkwX2_net_1 ++ dktX2_net_2
def dkwX2_net_0 : List UInt8 := [42, 3, 181, 0, 169, 42, 27, 182, 1, 116, 154, 0, 6, 16, 254, 172, 28, 3, 7, 184, 0, 181]
abbrev dktX2_net_0 : List UInt8 := dkwX2_net_0 ++ dktX2_net_1
theorem dksX2_net_0 : cX2_net.data.toList.drop 0 = dktX2_net_0 := by decide +kernel
theorem dksX2_net_1 : cX2_net.data.toList.drop 22 = dktX2_net_1 := dk_seg dksX2_net_0 22 rfl rfl
theorem dksX2_net_2 : cX2_net.data.toList.drop 46 = dktX2_net_2 := dk_seg dksX2_net_1 24 rfl rfl
theorem dksX2_net_3 : cX2_net.data.toList.drop 70 = dktX2_net_3 := dk_seg dksX2_net_2 24 rfl rfl
theorem dksX2_net_4 : cX2_net.data.toList.drop 93 = dktX2_net_4 := dk_seg dksX2_net_3 23 rfl rfl
theorem dksX2_net_5 : cX2_net.data.toList.drop 117 = dktX2_net_5 := dk_seg dksX2_net_4 24 rfl rfl
theorem dksX2_net_6 : cX2_net.data.toList.drop 141 = dktX2_net_6 := dk_seg dksX2_net_5 24 rfl rfl
theorem dksX2_net_7 : cX2_net.data.toList.drop 165 = dktX2_net_7 := dk_seg dksX2_net_6 24 rfl rfl
theorem dksX2_net_8 : cX2_net.data.toList.drop 189 = dktX2_net_8 := dk_seg dksX2_net_7 24 rfl rfl
theorem dX2_net_0 : decode cX2_net 0 = .ok (.aload_n 0, 1) := dk_42 (dk_at dksX2_net_0 0 rfl rfl)
theorem dX2_net_1 : decode cX2_net 1 = .ok (.iconst 0, 1) := dk_3 (dk_at dksX2_net_0 1 rfl rfl)
theorem dX2_net_2 : decode cX2_net 2 = .ok (.putfield 169, 3) := dk_181 0 169 (dk_at dksX2_net_0 2 rfl rfl)
theorem dX2_net_5 : decode cX2_net 5 = .ok (.aload_n 0, 1) := dk_42 (dk_at dksX2_net_0 5 rfl rfl)
theorem dX2_net_6 : decode cX2_net 6 = .ok (.iload_n 1, 1) := dk_27 (dk_at dksX2_net_0 6 rfl rfl)
theorem dX2_net_7 : decode cX2_net 7 = .ok (.invokevirtual 372, 3) := dk_182 1 116 (dk_at dksX2_net_0 7 rfl rfl)
theorem dX2_net_10 : decode cX2_net 10 = .ok (.ifCond .ne 6, 3) := dk_154 0 6 (dk_at dksX2_net_0 10 rfl rfl)
theorem dX2_net_13 : decode cX2_net 13 = .ok (.bipush (-2), 2) := dk_16 254 (dk_at dksX2_net_0 13 rfl rfl)
theorem dX2_net_15 : decode cX2_net 15 = .ok (.ireturn, 1) := dk_172 (dk_at dksX2_net_0 15 rfl rfl)
theorem dX2_net_16 : decode cX2_net 16 = .ok (.iload_n 2, 1) := dk_28 (dk_at dksX2_net_0 16 rfl rfl)
theorem dX2_net_17 : decode cX2_net 17 = .ok (.iconst 0, 1) := dk_3 (dk_at dksX2_net_0 17 rfl rfl)
theorem dX2_net_18 : decode cX2_net 18 = .ok (.iconst 4, 1) := dk_7 (dk_at dksX2_net_0 18 rfl rfl)
theorem dX2_net_19 : decode cX2_net 19 = .ok (.invokestatic 181, 3) := dk_184 0 181 (dk_at dksX2_net_0 19 rfl rfl)
theorem dX2_net_22 : decode cX2_net 22 = .ok (.ifCond .eq 9, 3) := dk_153 0 9 (dk_at dksX2_net_1 0 rfl rfl)
theorem dX2_net_25 : decode cX2_net 25 = .ok (.aload_n 0, 1) := dk_42 (dk_at dksX2_net_1 3 rfl rfl)
theorem dX2_net_26 : decode cX2_net 26 = .ok (.iload_n 2, 1) := dk_28 (dk_at dksX2_net_1 4 rfl rfl)
theorem dX2_net_27 : decode cX2_net 27 = .ok (.invokevirtual 335, 3) := dk_182 1 79 (dk_at dksX2_net_1 5 rfl rfl)
theorem dX2_net_30 : decode cX2_net 30 = .ok (.ireturn, 1) := dk_172 (dk_at dksX2_net_1 8 rfl rfl)
theorem dX2_net_31 : decode cX2_net 31 = .ok (.iload_n 2, 1) := dk_28 (dk_at dksX2_net_1 9 rfl rfl)
theorem dX2_net_32 : decode cX2_net 32 = .ok (.bipush 10, 2) := dk_16 10 (dk_at dksX2_net_1 10 rfl rfl)
theorem dX2_net_34 : decode cX2_net 34 = .ok (.bipush 15, 2) := dk_16 15 (dk_at dksX2_net_1 12 rfl rfl)
theorem dX2_net_36 : decode cX2_net 36 = .ok (.invokestatic 181, 3) := dk_184 0 181 (dk_at dksX2_net_1 14 rfl rfl)
theorem dX2_net_39 : decode cX2_net 39 = .ok (.ifCond .eq 30, 3) := dk_153 0 30 (dk_at dksX2_net_1 17 rfl rfl)
theorem dX2_net_42 : decode cX2_net 42 = .ok (.aload_n 0, 1) := dk_42 (dk_at dksX2_net_1 20 rfl rfl)
theorem dX2_net_43 : decode cX2_net 43 = .ok (.iload_n 2, 1) := dk_28 (dk_at dksX2_net_1 21 rfl rfl)
theorem dX2_net_44 : decode cX2_net 44 = .ok (.bipush 10, 2) := dk_16 10 (dk_at dksX2_net_1 22 rfl rfl)
theorem dX2_net_46 : decode cX2_net 46 = .ok (.isub, 1) := dk_100 (dk_at dksX2_net_2 0 rfl rfl)
theorem dX2_net_47 : decode cX2_net 47 = .ok (.invokevirtual 375, 3) := dk_182 1 119 (dk_at dksX2_net_2 1 rfl rfl)
theorem dX2_net_50 : decode cX2_net 50 = .ok (.ifCond .eq 16, 3) := dk_153 0 16 (dk_at dksX2_net_2 4 rfl rfl)
theorem dX2_net_53 : decode cX2_net 53 = .ok (.aload_n 0, 1) := dk_42 (dk_at dksX2_net_2 7 rfl rfl)
theorem dX2_net_54 : decode cX2_net 54 = .ok (.iconst 5, 1) := dk_8 (dk_at dksX2_net_2 8 rfl rfl)
theorem dX2_net_55 : decode cX2_net 55 = .ok (.iload_n 2, 1) := dk_28 (dk_at dksX2_net_2 9 rfl rfl)
theorem dX2_net_56 : decode cX2_net 56 = .ok (.iadd, 1) := dk_96 (dk_at dksX2_net_2 10 rfl rfl)
theorem dX2_net_57 : decode cX2_net 57 = .ok (.bipush 10, 2) := dk_16 10 (dk_at dksX2_net_2 11 rfl rfl)
theorem dX2_net_59 : decode cX2_net 59 = .ok (.isub, 1) := dk_100 (dk_at dksX2_net_2 13 rfl rfl)
theorem dX2_net_60 : decode cX2_net 60 = .ok (.invokevirtual 335, 3) := dk_182 1 79 (dk_at dksX2_net_2 14 rfl rfl)
theorem dX2_net_63 : decode cX2_net 63 = .ok (.goto 5, 3) := dk_167 0 5 (dk_at dksX2_net_2 17 rfl rfl)
theorem dX2_net_66 : decode cX2_net 66 = .ok (.bipush (-2), 2) := dk_16 254 (dk_at dksX2_net_2 20 rfl rfl)
theorem dX2_net_68 : decode cX2_net 68 = .ok (.ireturn, 1) := dk_172 (dk_at dksX2_net_2 22 rfl rfl)
theorem dX2_net_69 : decode cX2_net 69 = .ok (.iload_n 2, 1) := dk_28 (dk_at dksX2_net_2 23 rfl rfl)
theorem dX2_net_70 : decode cX2_net 70 = .ok (.bipush 100, 2) := dk_16 100 (dk_at dksX2_net_3 0 rfl rfl)
theorem dX2_net_72 : decode cX2_net 72 = .ok (.sipush 199, 3) := dk_17 0 199 (dk_at dksX2_net_3 2 rfl rfl)
theorem dX2_net_75 : decode cX2_net 75 = .ok (.invokestatic 181, 3) := dk_184 0 181 (dk_at dksX2_net_3 5 rfl rfl)
theorem dX2_net_78 : decode cX2_net 78 = .ok (.ifCond .eq 80, 3) := dk_153 0 80 (dk_at dksX2_net_3 8 rfl rfl)
theorem dX2_net_81 : decode cX2_net 81 = .ok (.iload_n 2, 1) := dk_28 (dk_at dksX2_net_3 11 rfl rfl)
theorem dX2_net_82 : decode cX2_net 82 = .ok (.bipush 100, 2) := dk_16 100 (dk_at dksX2_net_3 12 rfl rfl)
theorem dX2_net_84 : decode cX2_net 84 = .ok (.isub, 1) := dk_100 (dk_at dksX2_net_3 14 rfl rfl)
theorem dX2_net_85 : decode cX2_net 85 = .ok (.bipush 10, 2) := dk_16 10 (dk_at dksX2_net_3 15 rfl rfl)
theorem dX2_net_87 : decode cX2_net 87 = .ok (.idiv, 1) := dk_108 (dk_at dksX2_net_3 17 rfl rfl)
theorem dX2_net_88 : decode cX2_net 88 = .ok (.istore_n 3, 1) := dk_62 (dk_at dksX2_net_3 18 rfl rfl)
theorem dX2_net_89 : decode cX2_net 89 = .ok (.iload_n 2, 1) := dk_28 (dk_at dksX2_net_3 19 rfl rfl)
theorem dX2_net_90 : decode cX2_net 90 = .ok (.bipush 10, 2) := dk_16 10 (dk_at dksX2_net_3 20 rfl rfl)
theorem dX2_net_92 : decode cX2_net 92 = .ok (.irem, 1) := dk_112 (dk_at dksX2_net_3 22 rfl rfl)
theorem dX2_net_93 : decode cX2_net 93 = .ok (.istore 4, 2) := dk_54 4 (dk_at dksX2_net_4 0 rfl rfl)
theorem dX2_net_95 : decode cX2_net 95 = .ok (.aload_n 0, 1) := dk_42 (dk_at dksX2_net_4 2 rfl rfl)
theorem dX2_net_96 : decode cX2_net 96 = .ok (.iload_n 3, 1) := dk_29 (dk_at dksX2_net_4 3 rfl rfl)
theorem dX2_net_97 : decode cX2_net 97 = .ok (.invokevirtual 375, 3) := dk_182 1 119 (dk_at dksX2_net_4 4 rfl rfl)
theorem dX2_net_100 : decode cX2_net 100 = .ok (.ifCond .eq 12, 3) := dk_153 0 12 (dk_at dksX2_net_4 7 rfl rfl)
theorem dX2_net_103 : decode cX2_net 103 = .ok (.aload_n 0, 1) := dk_42 (dk_at dksX2_net_4 10 rfl rfl)
theorem dX2_net_104 : decode cX2_net 104 = .ok (.iload 4, 2) := dk_21 4 (dk_at dksX2_net_4 11 rfl rfl)
theorem dX2_net_106 : decode cX2_net 106 = .ok (.invokevirtual 375, 3) := dk_182 1 119 (dk_at dksX2_net_4 13 rfl rfl)
theorem dX2_net_109 : decode cX2_net 109 = .ok (.ifCond .ne 6, 3) := dk_154 0 6 (dk_at dksX2_net_4 16 rfl rfl)
theorem dX2_net_112 : decode cX2_net 112 = .ok (.bipush (-2), 2) := dk_16 254 (dk_at dksX2_net_4 19 rfl rfl)
theorem dX2_net_114 : decode cX2_net 114 = .ok (.ireturn, 1) := dk_172 (dk_at dksX2_net_4 21 rfl rfl)
theorem dX2_net_115 : decode cX2_net 115 = .ok (.aload_n 0, 1) := dk_42 (dk_at dksX2_net_4 22 rfl rfl)
theorem dX2_net_116 : decode cX2_net 116 = .ok (.iconst (-1), 1) := dk_2 (dk_at dksX2_net_4 23 rfl rfl)
theorem dX2_net_117 : decode cX2_net 117 = .ok (.invokevirtual 378, 3) := dk_182 1 122 (dk_at dksX2_net_5 0 rfl rfl)
theorem dX2_net_120 : decode cX2_net 120 = .ok (.aload_n 0, 1) := dk_42 (dk_at dksX2_net_5 3 rfl rfl)
theorem dX2_net_121 : decode cX2_net 121 = .ok (.getfield 41, 3) := dk_180 0 41 (dk_at dksX2_net_5 4 rfl rfl)
theorem dX2_net_124 : decode cX2_net 124 = .ok (.bipush 6, 2) := dk_16 6 (dk_at dksX2_net_5 7 rfl rfl)
theorem dX2_net_126 : decode cX2_net 126 = .ok (.iload_n 3, 1) := dk_29 (dk_at dksX2_net_5 9 rfl rfl)
theorem dX2_net_127 : decode cX2_net 127 = .ok (.imul, 1) := dk_104 (dk_at dksX2_net_5 10 rfl rfl)
theorem dX2_net_128 : decode cX2_net 128 = .ok (.iload 4, 2) := dk_21 4 (dk_at dksX2_net_5 11 rfl rfl)
theorem dX2_net_130 : decode cX2_net 130 = .ok (.iadd, 1) := dk_96 (dk_at dksX2_net_5 13 rfl rfl)
theorem dX2_net_131 : decode cX2_net 131 = .ok (.iaload, 1) := dk_46 (dk_at dksX2_net_5 14 rfl rfl)
theorem dX2_net_132 : decode cX2_net 132 = .ok (.iconst (-1), 1) := dk_2 (dk_at dksX2_net_5 15 rfl rfl)
theorem dX2_net_133 : decode cX2_net 133 = .ok (.if_icmp .ne 7, 3) := dk_160 0 7 (dk_at dksX2_net_5 16 rfl rfl)
theorem dX2_net_136 : decode cX2_net 136 = .ok (.iconst (-1), 1) := dk_2 (dk_at dksX2_net_5 19 rfl rfl)
theorem dX2_net_137 : decode cX2_net 137 = .ok (.goto 20, 3) := dk_167 0 20 (dk_at dksX2_net_5 20 rfl rfl)
theorem dX2_net_140 : decode cX2_net 140 = .ok (.aload_n 0, 1) := dk_42 (dk_at dksX2_net_5 23 rfl rfl)
theorem dX2_net_141 : decode cX2_net 141 = .ok (.aload_n 0, 1) := dk_42 (dk_at dksX2_net_6 0 rfl rfl)
theorem dX2_net_142 : decode cX2_net 142 = .ok (.getfield 41, 3) := dk_180 0 41 (dk_at dksX2_net_6 1 rfl rfl)
theorem dX2_net_145 : decode cX2_net 145 = .ok (.bipush 6, 2) := dk_16 6 (dk_at dksX2_net_6 4 rfl rfl)
theorem dX2_net_147 : decode cX2_net 147 = .ok (.iload_n 3, 1) := dk_29 (dk_at dksX2_net_6 6 rfl rfl)
theorem dX2_net_148 : decode cX2_net 148 = .ok (.imul, 1) := dk_104 (dk_at dksX2_net_6 7 rfl rfl)
theorem dX2_net_149 : decode cX2_net 149 = .ok (.iload 4, 2) := dk_21 4 (dk_at dksX2_net_6 8 rfl rfl)
theorem dX2_net_151 : decode cX2_net 151 = .ok (.iadd, 1) := dk_96 (dk_at dksX2_net_6 10 rfl rfl)
theorem dX2_net_152 : decode cX2_net 152 = .ok (.iaload, 1) := dk_46 (dk_at dksX2_net_6 11 rfl rfl)
theorem dX2_net_153 : decode cX2_net 153 = .ok (.iconst 2, 1) := dk_5 (dk_at dksX2_net_6 12 rfl rfl)
theorem dX2_net_154 : decode cX2_net 154 = .ok (.invokevirtual 348, 3) := dk_182 1 92 (dk_at dksX2_net_6 13 rfl rfl)
theorem dX2_net_157 : decode cX2_net 157 = .ok (.ireturn, 1) := dk_172 (dk_at dksX2_net_6 16 rfl rfl)
theorem dX2_net_158 : decode cX2_net 158 = .ok (.iload_n 2, 1) := dk_28 (dk_at dksX2_net_6 17 rfl rfl)
theorem dX2_net_159 : decode cX2_net 159 = .ok (.sipush 200, 3) := dk_17 0 200 (dk_at dksX2_net_6 18 rfl rfl)
theorem dX2_net_162 : decode cX2_net 162 = .ok (.sipush 279, 3) := dk_17 1 23 (dk_at dksX2_net_6 21 rfl rfl)
theorem dX2_net_165 : decode cX2_net 165 = .ok (.invokestatic 181, 3) := dk_184 0 181 (dk_at dksX2_net_7 0 rfl rfl)
theorem dX2_net_168 : decode cX2_net 168 = .ok (.ifCond .ne 16, 3) := dk_154 0 16 (dk_at dksX2_net_7 3 rfl rfl)
theorem dX2_net_171 : decode cX2_net 171 = .ok (.iload_n 2, 1) := dk_28 (dk_at dksX2_net_7 6 rfl rfl)
theorem dX2_net_172 : decode cX2_net 172 = .ok (.sipush 300, 3) := dk_17 1 44 (dk_at dksX2_net_7 7 rfl rfl)
theorem dX2_net_175 : decode cX2_net 175 = .ok (.sipush 359, 3) := dk_17 1 103 (dk_at dksX2_net_7 10 rfl rfl)
theorem dX2_net_178 : decode cX2_net 178 = .ok (.invokestatic 181, 3) := dk_184 0 181 (dk_at dksX2_net_7 13 rfl rfl)
theorem dX2_net_181 : decode cX2_net 181 = .ok (.ifCond .eq 15, 3) := dk_153 0 15 (dk_at dksX2_net_7 16 rfl rfl)
theorem dX2_net_184 : decode cX2_net 184 = .ok (.aload_n 0, 1) := dk_42 (dk_at dksX2_net_7 19 rfl rfl)
theorem dX2_net_185 : decode cX2_net 185 = .ok (.iload_n 2, 1) := dk_28 (dk_at dksX2_net_7 20 rfl rfl)
theorem dX2_net_186 : decode cX2_net 186 = .ok (.iload_n 2, 1) := dk_28 (dk_at dksX2_net_7 21 rfl rfl)
theorem dX2_net_187 : decode cX2_net 187 = .ok (.bipush 20, 2) := dk_16 20 (dk_at dksX2_net_7 22 rfl rfl)
theorem dX2_net_189 : decode cX2_net 189 = .ok (.irem, 1) := dk_112 (dk_at dksX2_net_8 0 rfl rfl)
theorem dX2_net_190 : decode cX2_net 190 = .ok (.invokevirtual 381, 3) := dk_182 1 125 (dk_at dksX2_net_8 1 rfl rfl)
theorem dX2_net_193 : decode cX2_net 193 = .ok (.goto 5, 3) := dk_167 0 5 (dk_at dksX2_net_8 4 rfl rfl)
theorem dX2_net_196 : decode cX2_net 196 = .ok (.bipush (-2), 2) := dk_16 254 (dk_at dksX2_net_8 7 rfl rfl)
theorem dX2_net_198 : decode cX2_net 198 = .ok (.ireturn, 1) := dk_172 (dk_at dksX2_net_8 9 rfl rfl)
abbrev cX2_hasNet : ByteArray := prog_25_method_37_code
def yX2_hasNet : MethodName := ⟨RX2, "hasNet", "(I)Z"⟩
def dkwX2_hasNet_1 : List UInt8 := [181, 1, 83, 42, 42, 4, 182, 1, 79, 181, 1, 86, 4, 172]
abbrev dktX2_hasNet_1 : List UInt8 := dkwX2_hasNet_1 ++ []
def dkwX2_hasNet_0 : List UInt8 := [42, 27, 181, 1, 76, 42, 3, 27, 182, 1, 66, 154, 0, 5, 3, 172, 42, 42, 3, 182, 1, 79]
abbrev dktX2_hasNet_0 : List UInt8 := dkwX2_hasNet_0 ++ dktX2_hasNet_1
theorem dksX2_hasNet_0 : cX2_hasNet.data.toList.drop 0 = dktX2_hasNet_0 := by decide +kernel
theorem dksX2_hasNet_1 : cX2_hasNet.data.toList.drop 22 = dktX2_hasNet_1 := dk_seg dksX2_hasNet_0 22 rfl rfl
theorem dX2_hasNet_0 : decode cX2_hasNet 0 = .ok (.aload_n 0, 1) := dk_42 (dk_at dksX2_hasNet_0 0 rfl rfl)
theorem dX2_hasNet_1 : decode cX2_hasNet 1 = .ok (.iload_n 1, 1) := dk_27 (dk_at dksX2_hasNet_0 1 rfl rfl)
theorem dX2_hasNet_2 : decode cX2_hasNet 2 = .ok (.putfield 332, 3) := dk_181 1 76 (dk_at dksX2_hasNet_0 2 rfl rfl)
theorem dX2_hasNet_5 : decode cX2_hasNet 5 = .ok (.aload_n 0, 1) := dk_42 (dk_at dksX2_hasNet_0 5 rfl rfl)
theorem dX2_hasNet_6 : decode cX2_hasNet 6 = .ok (.iconst 0, 1) := dk_3 (dk_at dksX2_hasNet_0 6 rfl rfl)
theorem dX2_hasNet_7 : decode cX2_hasNet 7 = .ok (.iload_n 1, 1) := dk_27 (dk_at dksX2_hasNet_0 7 rfl rfl)
theorem dX2_hasNet_8 : decode cX2_hasNet 8 = .ok (.invokevirtual 322, 3) := dk_182 1 66 (dk_at dksX2_hasNet_0 8 rfl rfl)
theorem dX2_hasNet_11 : decode cX2_hasNet 11 = .ok (.ifCond .ne 5, 3) := dk_154 0 5 (dk_at dksX2_hasNet_0 11 rfl rfl)
theorem dX2_hasNet_14 : decode cX2_hasNet 14 = .ok (.iconst 0, 1) := dk_3 (dk_at dksX2_hasNet_0 14 rfl rfl)
theorem dX2_hasNet_15 : decode cX2_hasNet 15 = .ok (.ireturn, 1) := dk_172 (dk_at dksX2_hasNet_0 15 rfl rfl)
theorem dX2_hasNet_16 : decode cX2_hasNet 16 = .ok (.aload_n 0, 1) := dk_42 (dk_at dksX2_hasNet_0 16 rfl rfl)
theorem dX2_hasNet_17 : decode cX2_hasNet 17 = .ok (.aload_n 0, 1) := dk_42 (dk_at dksX2_hasNet_0 17 rfl rfl)
theorem dX2_hasNet_18 : decode cX2_hasNet 18 = .ok (.iconst 0, 1) := dk_3 (dk_at dksX2_hasNet_0 18 rfl rfl)
theorem dX2_hasNet_19 : decode cX2_hasNet 19 = .ok (.invokevirtual 335, 3) := dk_182 1 79 (dk_at dksX2_hasNet_0 19 rfl rfl)
theorem dX2_hasNet_22 : decode cX2_hasNet 22 = .ok (.putfield 339, 3) := dk_181 1 83 (dk_at dksX2_hasNet_1 0 rfl rfl)
theorem dX2_hasNet_25 : decode cX2_hasNet 25 = .ok (.aload_n 0, 1) := dk_42 (dk_at dksX2_hasNet_1 3 rfl rfl)
theorem dX2_hasNet_26 : decode cX2_hasNet 26 = .ok (.aload_n 0, 1) := dk_42 (dk_at dksX2_hasNet_1 4 rfl rfl)
theorem dX2_hasNet_27 : decode cX2_hasNet 27 = .ok (.iconst 1, 1) := dk_4 (dk_at dksX2_hasNet_1 5 rfl rfl)
theorem dX2_hasNet_28 : decode cX2_hasNet 28 = .ok (.invokevirtual 335, 3) := dk_182 1 79 (dk_at dksX2_hasNet_1 6 rfl rfl)
theorem dX2_hasNet_31 : decode cX2_hasNet 31 = .ok (.putfield 342, 3) := dk_181 1 86 (dk_at dksX2_hasNet_1 9 rfl rfl)
theorem dX2_hasNet_34 : decode cX2_hasNet 34 = .ok (.iconst 1, 1) := dk_4 (dk_at dksX2_hasNet_1 12 rfl rfl)
theorem dX2_hasNet_35 : decode cX2_hasNet 35 = .ok (.ireturn, 1) := dk_172 (dk_at dksX2_hasNet_1 13 rfl rfl)
abbrev cX2_ofNet : ByteArray := prog_25_method_36_code
def yX2_ofNet : MethodName := ⟨RX2, "ofNet", "(I)I"⟩
def dkwX2_ofNet_0 : List UInt8 := [42, 180, 0, 26, 16, 122, 42, 180, 1, 76, 104, 27, 96, 46, 172]
abbrev dktX2_ofNet_0 : List UInt8 := dkwX2_ofNet_0 ++ []
theorem dksX2_ofNet_0 : cX2_ofNet.data.toList.drop 0 = dktX2_ofNet_0 := by decide +kernel
theorem dX2_ofNet_0 : decode cX2_ofNet 0 = .ok (.aload_n 0, 1) := dk_42 (dk_at dksX2_ofNet_0 0 rfl rfl)
theorem dX2_ofNet_1 : decode cX2_ofNet 1 = .ok (.getfield 26, 3) := dk_180 0 26 (dk_at dksX2_ofNet_0 1 rfl rfl)
theorem dX2_ofNet_4 : decode cX2_ofNet 4 = .ok (.bipush 122, 2) := dk_16 122 (dk_at dksX2_ofNet_0 4 rfl rfl)
theorem dX2_ofNet_6 : decode cX2_ofNet 6 = .ok (.aload_n 0, 1) := dk_42 (dk_at dksX2_ofNet_0 6 rfl rfl)
theorem dX2_ofNet_7 : decode cX2_ofNet 7 = .ok (.getfield 332, 3) := dk_180 1 76 (dk_at dksX2_ofNet_0 7 rfl rfl)
theorem dX2_ofNet_10 : decode cX2_ofNet 10 = .ok (.imul, 1) := dk_104 (dk_at dksX2_ofNet_0 10 rfl rfl)
theorem dX2_ofNet_11 : decode cX2_ofNet 11 = .ok (.iload_n 1, 1) := dk_27 (dk_at dksX2_ofNet_0 11 rfl rfl)
theorem dX2_ofNet_12 : decode cX2_ofNet 12 = .ok (.iadd, 1) := dk_96 (dk_at dksX2_ofNet_0 12 rfl rfl)
theorem dX2_ofNet_13 : decode cX2_ofNet 13 = .ok (.iaload, 1) := dk_46 (dk_at dksX2_ofNet_0 13 rfl rfl)
theorem dX2_ofNet_14 : decode cX2_ofNet 14 = .ok (.ireturn, 1) := dk_172 (dk_at dksX2_ofNet_0 14 rfl rfl)
abbrev cX2_isNode : ByteArray := prog_25_method_38_code
def yX2_isNode : MethodName := ⟨RX2, "isNode", "(I)Z"⟩
def dkwX2_isNode_0 : List UInt8 := [27, 3, 42, 180, 1, 83, 4, 100, 184, 0, 181, 172]
abbrev dktX2_isNode_0 : List UInt8 := dkwX2_isNode_0 ++ []
theorem dksX2_isNode_0 : cX2_isNode.data.toList.drop 0 = dktX2_isNode_0 := by decide +kernel
theorem dX2_isNode_0 : decode cX2_isNode 0 = .ok (.iload_n 1, 1) := dk_27 (dk_at dksX2_isNode_0 0 rfl rfl)
theorem dX2_isNode_1 : decode cX2_isNode 1 = .ok (.iconst 0, 1) := dk_3 (dk_at dksX2_isNode_0 1 rfl rfl)
theorem dX2_isNode_2 : decode cX2_isNode 2 = .ok (.aload_n 0, 1) := dk_42 (dk_at dksX2_isNode_0 2 rfl rfl)
theorem dX2_isNode_3 : decode cX2_isNode 3 = .ok (.getfield 339, 3) := dk_180 1 83 (dk_at dksX2_isNode_0 3 rfl rfl)
theorem dX2_isNode_6 : decode cX2_isNode 6 = .ok (.iconst 1, 1) := dk_4 (dk_at dksX2_isNode_0 6 rfl rfl)
theorem dX2_isNode_7 : decode cX2_isNode 7 = .ok (.isub, 1) := dk_100 (dk_at dksX2_isNode_0 7 rfl rfl)
theorem dX2_isNode_8 : decode cX2_isNode 8 = .ok (.invokestatic 181, 3) := dk_184 0 181 (dk_at dksX2_isNode_0 8 rfl rfl)
theorem dX2_isNode_11 : decode cX2_isNode 11 = .ok (.ireturn, 1) := dk_172 (dk_at dksX2_isNode_0 11 rfl rfl)
abbrev cX2_layLinks : ByteArray := prog_25_method_45_code
def yX2_layLinks : MethodName := ⟨RX2, "layLinks", "(I)V"⟩
def dkwX2_layLinks_3 : List UInt8 := [28, 3, 182, 1, 92, 96, 28, 79, 132, 2, 1, 167, 255, 196, 177]
abbrev dktX2_layLinks_3 : List UInt8 := dkwX2_layLinks_3 ++ []
def dkwX2_layLinks_2 : List UInt8 := [104, 42, 28, 4, 182, 1, 92, 96, 28, 79, 42, 180, 0, 41, 16, 6, 42, 28, 4, 182, 1, 92, 104, 42]
abbrev dktX2_layLinks_2 : List UInt8 := dkwX2_layLinks_2 ++ dktX2_layLinks_3
def dkwX2_layLinks_1 : List UInt8 := [42, 182, 1, 89, 162, 0, 58, 28, 27, 159, 0, 47, 42, 180, 0, 41, 16, 6, 42, 28, 3, 182, 1, 92]
abbrev dktX2_layLinks_1 : List UInt8 := dkwX2_layLinks_1 ++ dktX2_layLinks_2
def dkwX2_layLinks_0 : List UInt8 := [3, 61, 28, 16, 36, 162, 0, 16, 42, 180, 0, 41, 28, 2, 79, 132, 2, 1, 167, 255, 240, 3, 61, 28]
abbrev dktX2_layLinks_0 : List UInt8 := dkwX2_layLinks_0 ++ dktX2_layLinks_1
theorem dksX2_layLinks_0 : cX2_layLinks.data.toList.drop 0 = dktX2_layLinks_0 := by decide +kernel
theorem dksX2_layLinks_1 : cX2_layLinks.data.toList.drop 24 = dktX2_layLinks_1 := dk_seg dksX2_layLinks_0 24 rfl rfl
theorem dksX2_layLinks_2 : cX2_layLinks.data.toList.drop 48 = dktX2_layLinks_2 := dk_seg dksX2_layLinks_1 24 rfl rfl
theorem dksX2_layLinks_3 : cX2_layLinks.data.toList.drop 72 = dktX2_layLinks_3 := dk_seg dksX2_layLinks_2 24 rfl rfl
theorem dX2_layLinks_0 : decode cX2_layLinks 0 = .ok (.iconst 0, 1) := dk_3 (dk_at dksX2_layLinks_0 0 rfl rfl)
theorem dX2_layLinks_1 : decode cX2_layLinks 1 = .ok (.istore_n 2, 1) := dk_61 (dk_at dksX2_layLinks_0 1 rfl rfl)
theorem dX2_layLinks_2 : decode cX2_layLinks 2 = .ok (.iload_n 2, 1) := dk_28 (dk_at dksX2_layLinks_0 2 rfl rfl)
theorem dX2_layLinks_3 : decode cX2_layLinks 3 = .ok (.bipush 36, 2) := dk_16 36 (dk_at dksX2_layLinks_0 3 rfl rfl)
theorem dX2_layLinks_5 : decode cX2_layLinks 5 = .ok (.if_icmp .ge 16, 3) := dk_162 0 16 (dk_at dksX2_layLinks_0 5 rfl rfl)
theorem dX2_layLinks_8 : decode cX2_layLinks 8 = .ok (.aload_n 0, 1) := dk_42 (dk_at dksX2_layLinks_0 8 rfl rfl)
theorem dX2_layLinks_9 : decode cX2_layLinks 9 = .ok (.getfield 41, 3) := dk_180 0 41 (dk_at dksX2_layLinks_0 9 rfl rfl)
theorem dX2_layLinks_12 : decode cX2_layLinks 12 = .ok (.iload_n 2, 1) := dk_28 (dk_at dksX2_layLinks_0 12 rfl rfl)
theorem dX2_layLinks_13 : decode cX2_layLinks 13 = .ok (.iconst (-1), 1) := dk_2 (dk_at dksX2_layLinks_0 13 rfl rfl)
theorem dX2_layLinks_14 : decode cX2_layLinks 14 = .ok (.iastore, 1) := dk_79 (dk_at dksX2_layLinks_0 14 rfl rfl)
theorem dX2_layLinks_15 : decode cX2_layLinks 15 = .ok (.iinc 2 1, 3) := dk_132 2 1 (dk_at dksX2_layLinks_0 15 rfl rfl)
theorem dX2_layLinks_18 : decode cX2_layLinks 18 = .ok (.goto (-16), 3) := dk_167 255 240 (dk_at dksX2_layLinks_0 18 rfl rfl)
theorem dX2_layLinks_21 : decode cX2_layLinks 21 = .ok (.iconst 0, 1) := dk_3 (dk_at dksX2_layLinks_0 21 rfl rfl)
theorem dX2_layLinks_22 : decode cX2_layLinks 22 = .ok (.istore_n 2, 1) := dk_61 (dk_at dksX2_layLinks_0 22 rfl rfl)
theorem dX2_layLinks_23 : decode cX2_layLinks 23 = .ok (.iload_n 2, 1) := dk_28 (dk_at dksX2_layLinks_0 23 rfl rfl)
theorem dX2_layLinks_24 : decode cX2_layLinks 24 = .ok (.aload_n 0, 1) := dk_42 (dk_at dksX2_layLinks_1 0 rfl rfl)
theorem dX2_layLinks_25 : decode cX2_layLinks 25 = .ok (.invokevirtual 345, 3) := dk_182 1 89 (dk_at dksX2_layLinks_1 1 rfl rfl)
theorem dX2_layLinks_28 : decode cX2_layLinks 28 = .ok (.if_icmp .ge 58, 3) := dk_162 0 58 (dk_at dksX2_layLinks_1 4 rfl rfl)
theorem dX2_layLinks_31 : decode cX2_layLinks 31 = .ok (.iload_n 2, 1) := dk_28 (dk_at dksX2_layLinks_1 7 rfl rfl)
theorem dX2_layLinks_32 : decode cX2_layLinks 32 = .ok (.iload_n 1, 1) := dk_27 (dk_at dksX2_layLinks_1 8 rfl rfl)
theorem dX2_layLinks_33 : decode cX2_layLinks 33 = .ok (.if_icmp .eq 47, 3) := dk_159 0 47 (dk_at dksX2_layLinks_1 9 rfl rfl)
theorem dX2_layLinks_36 : decode cX2_layLinks 36 = .ok (.aload_n 0, 1) := dk_42 (dk_at dksX2_layLinks_1 12 rfl rfl)
theorem dX2_layLinks_37 : decode cX2_layLinks 37 = .ok (.getfield 41, 3) := dk_180 0 41 (dk_at dksX2_layLinks_1 13 rfl rfl)
theorem dX2_layLinks_40 : decode cX2_layLinks 40 = .ok (.bipush 6, 2) := dk_16 6 (dk_at dksX2_layLinks_1 16 rfl rfl)
theorem dX2_layLinks_42 : decode cX2_layLinks 42 = .ok (.aload_n 0, 1) := dk_42 (dk_at dksX2_layLinks_1 18 rfl rfl)
theorem dX2_layLinks_43 : decode cX2_layLinks 43 = .ok (.iload_n 2, 1) := dk_28 (dk_at dksX2_layLinks_1 19 rfl rfl)
theorem dX2_layLinks_44 : decode cX2_layLinks 44 = .ok (.iconst 0, 1) := dk_3 (dk_at dksX2_layLinks_1 20 rfl rfl)
theorem dX2_layLinks_45 : decode cX2_layLinks 45 = .ok (.invokevirtual 348, 3) := dk_182 1 92 (dk_at dksX2_layLinks_1 21 rfl rfl)
theorem dX2_layLinks_48 : decode cX2_layLinks 48 = .ok (.imul, 1) := dk_104 (dk_at dksX2_layLinks_2 0 rfl rfl)
theorem dX2_layLinks_49 : decode cX2_layLinks 49 = .ok (.aload_n 0, 1) := dk_42 (dk_at dksX2_layLinks_2 1 rfl rfl)
theorem dX2_layLinks_50 : decode cX2_layLinks 50 = .ok (.iload_n 2, 1) := dk_28 (dk_at dksX2_layLinks_2 2 rfl rfl)
theorem dX2_layLinks_51 : decode cX2_layLinks 51 = .ok (.iconst 1, 1) := dk_4 (dk_at dksX2_layLinks_2 3 rfl rfl)
theorem dX2_layLinks_52 : decode cX2_layLinks 52 = .ok (.invokevirtual 348, 3) := dk_182 1 92 (dk_at dksX2_layLinks_2 4 rfl rfl)
theorem dX2_layLinks_55 : decode cX2_layLinks 55 = .ok (.iadd, 1) := dk_96 (dk_at dksX2_layLinks_2 7 rfl rfl)
theorem dX2_layLinks_56 : decode cX2_layLinks 56 = .ok (.iload_n 2, 1) := dk_28 (dk_at dksX2_layLinks_2 8 rfl rfl)
theorem dX2_layLinks_57 : decode cX2_layLinks 57 = .ok (.iastore, 1) := dk_79 (dk_at dksX2_layLinks_2 9 rfl rfl)
theorem dX2_layLinks_58 : decode cX2_layLinks 58 = .ok (.aload_n 0, 1) := dk_42 (dk_at dksX2_layLinks_2 10 rfl rfl)
theorem dX2_layLinks_59 : decode cX2_layLinks 59 = .ok (.getfield 41, 3) := dk_180 0 41 (dk_at dksX2_layLinks_2 11 rfl rfl)
theorem dX2_layLinks_62 : decode cX2_layLinks 62 = .ok (.bipush 6, 2) := dk_16 6 (dk_at dksX2_layLinks_2 14 rfl rfl)
theorem dX2_layLinks_64 : decode cX2_layLinks 64 = .ok (.aload_n 0, 1) := dk_42 (dk_at dksX2_layLinks_2 16 rfl rfl)
theorem dX2_layLinks_65 : decode cX2_layLinks 65 = .ok (.iload_n 2, 1) := dk_28 (dk_at dksX2_layLinks_2 17 rfl rfl)
theorem dX2_layLinks_66 : decode cX2_layLinks 66 = .ok (.iconst 1, 1) := dk_4 (dk_at dksX2_layLinks_2 18 rfl rfl)
theorem dX2_layLinks_67 : decode cX2_layLinks 67 = .ok (.invokevirtual 348, 3) := dk_182 1 92 (dk_at dksX2_layLinks_2 19 rfl rfl)
theorem dX2_layLinks_70 : decode cX2_layLinks 70 = .ok (.imul, 1) := dk_104 (dk_at dksX2_layLinks_2 22 rfl rfl)
theorem dX2_layLinks_71 : decode cX2_layLinks 71 = .ok (.aload_n 0, 1) := dk_42 (dk_at dksX2_layLinks_2 23 rfl rfl)
theorem dX2_layLinks_72 : decode cX2_layLinks 72 = .ok (.iload_n 2, 1) := dk_28 (dk_at dksX2_layLinks_3 0 rfl rfl)
theorem dX2_layLinks_73 : decode cX2_layLinks 73 = .ok (.iconst 0, 1) := dk_3 (dk_at dksX2_layLinks_3 1 rfl rfl)
theorem dX2_layLinks_74 : decode cX2_layLinks 74 = .ok (.invokevirtual 348, 3) := dk_182 1 92 (dk_at dksX2_layLinks_3 2 rfl rfl)
theorem dX2_layLinks_77 : decode cX2_layLinks 77 = .ok (.iadd, 1) := dk_96 (dk_at dksX2_layLinks_3 5 rfl rfl)
theorem dX2_layLinks_78 : decode cX2_layLinks 78 = .ok (.iload_n 2, 1) := dk_28 (dk_at dksX2_layLinks_3 6 rfl rfl)
theorem dX2_layLinks_79 : decode cX2_layLinks 79 = .ok (.iastore, 1) := dk_79 (dk_at dksX2_layLinks_3 7 rfl rfl)
theorem dX2_layLinks_80 : decode cX2_layLinks 80 = .ok (.iinc 2 1, 3) := dk_132 2 1 (dk_at dksX2_layLinks_3 8 rfl rfl)
theorem dX2_layLinks_83 : decode cX2_layLinks 83 = .ok (.goto (-60), 3) := dk_167 255 196 (dk_at dksX2_layLinks_3 11 rfl rfl)
theorem dX2_layLinks_86 : decode cX2_layLinks 86 = .ok (.return_, 1) := dk_177 (dk_at dksX2_layLinks_3 14 rfl rfl)
abbrev cX2_links : ByteArray := prog_25_method_39_code
def yX2_links : MethodName := ⟨RX2, "links", "()I"⟩
def dkwX2_links_0 : List UInt8 := [42, 5, 182, 1, 79, 172]
abbrev dktX2_links_0 : List UInt8 := dkwX2_links_0 ++ []
theorem dksX2_links_0 : cX2_links.data.toList.drop 0 = dktX2_links_0 := by decide +kernel
theorem dX2_links_0 : decode cX2_links 0 = .ok (.aload_n 0, 1) := dk_42 (dk_at dksX2_links_0 0 rfl rfl)
theorem dX2_links_1 : decode cX2_links 1 = .ok (.iconst 2, 1) := dk_5 (dk_at dksX2_links_0 1 rfl rfl)
theorem dX2_links_2 : decode cX2_links 2 = .ok (.invokevirtual 335, 3) := dk_182 1 79 (dk_at dksX2_links_0 2 rfl rfl)
theorem dX2_links_5 : decode cX2_links 5 = .ok (.ireturn, 1) := dk_172 (dk_at dksX2_links_0 5 rfl rfl)
abbrev cX2_linkAt : ByteArray := prog_25_method_40_code
def yX2_linkAt : MethodName := ⟨RX2, "linkAt", "(II)I"⟩
def dkwX2_linkAt_0 : List UInt8 := [42, 16, 11, 6, 27, 104, 96, 28, 96, 182, 1, 79, 172]
abbrev dktX2_linkAt_0 : List UInt8 := dkwX2_linkAt_0 ++ []
theorem dksX2_linkAt_0 : cX2_linkAt.data.toList.drop 0 = dktX2_linkAt_0 := by decide +kernel
theorem dX2_linkAt_0 : decode cX2_linkAt 0 = .ok (.aload_n 0, 1) := dk_42 (dk_at dksX2_linkAt_0 0 rfl rfl)
theorem dX2_linkAt_1 : decode cX2_linkAt 1 = .ok (.bipush 11, 2) := dk_16 11 (dk_at dksX2_linkAt_0 1 rfl rfl)
theorem dX2_linkAt_3 : decode cX2_linkAt 3 = .ok (.iconst 3, 1) := dk_6 (dk_at dksX2_linkAt_0 3 rfl rfl)
theorem dX2_linkAt_4 : decode cX2_linkAt 4 = .ok (.iload_n 1, 1) := dk_27 (dk_at dksX2_linkAt_0 4 rfl rfl)
theorem dX2_linkAt_5 : decode cX2_linkAt 5 = .ok (.imul, 1) := dk_104 (dk_at dksX2_linkAt_0 5 rfl rfl)
theorem dX2_linkAt_6 : decode cX2_linkAt 6 = .ok (.iadd, 1) := dk_96 (dk_at dksX2_linkAt_0 6 rfl rfl)
theorem dX2_linkAt_7 : decode cX2_linkAt 7 = .ok (.iload_n 2, 1) := dk_28 (dk_at dksX2_linkAt_0 7 rfl rfl)
theorem dX2_linkAt_8 : decode cX2_linkAt 8 = .ok (.iadd, 1) := dk_96 (dk_at dksX2_linkAt_0 8 rfl rfl)
theorem dX2_linkAt_9 : decode cX2_linkAt 9 = .ok (.invokevirtual 335, 3) := dk_182 1 79 (dk_at dksX2_linkAt_0 9 rfl rfl)
theorem dX2_linkAt_12 : decode cX2_linkAt 12 = .ok (.ireturn, 1) := dk_172 (dk_at dksX2_linkAt_0 12 rfl rfl)
abbrev cX2_ofPlace : ByteArray := prog_25_method_53_code
def yX2_ofPlace : MethodName := ⟨RX2, "ofPlace", "(II)I"⟩
def dkwX2_ofPlace_2 : List UInt8 := [100, 16, 20, 108, 182, 1, 113, 167, 0, 5, 16, 254, 172]
abbrev dktX2_ofPlace_2 : List UInt8 := dkwX2_ofPlace_2 ++ []
def dkwX2_ofPlace_1 : List UInt8 := [108, 182, 1, 104, 167, 0, 5, 16, 254, 172, 28, 42, 182, 1, 110, 162, 0, 19, 42, 28, 27, 17, 1, 44]
abbrev dktX2_ofPlace_1 : List UInt8 := dkwX2_ofPlace_1 ++ dktX2_ofPlace_2
def dkwX2_ofPlace_0 : List UInt8 := [27, 17, 1, 44, 162, 0, 30, 28, 42, 182, 1, 101, 162, 0, 19, 42, 28, 27, 17, 0, 200, 100, 16, 20]
abbrev dktX2_ofPlace_0 : List UInt8 := dkwX2_ofPlace_0 ++ dktX2_ofPlace_1
theorem dksX2_ofPlace_0 : cX2_ofPlace.data.toList.drop 0 = dktX2_ofPlace_0 := by decide +kernel
theorem dksX2_ofPlace_1 : cX2_ofPlace.data.toList.drop 24 = dktX2_ofPlace_1 := dk_seg dksX2_ofPlace_0 24 rfl rfl
theorem dksX2_ofPlace_2 : cX2_ofPlace.data.toList.drop 48 = dktX2_ofPlace_2 := dk_seg dksX2_ofPlace_1 24 rfl rfl
theorem dX2_ofPlace_0 : decode cX2_ofPlace 0 = .ok (.iload_n 1, 1) := dk_27 (dk_at dksX2_ofPlace_0 0 rfl rfl)
theorem dX2_ofPlace_1 : decode cX2_ofPlace 1 = .ok (.sipush 300, 3) := dk_17 1 44 (dk_at dksX2_ofPlace_0 1 rfl rfl)
theorem dX2_ofPlace_4 : decode cX2_ofPlace 4 = .ok (.if_icmp .ge 30, 3) := dk_162 0 30 (dk_at dksX2_ofPlace_0 4 rfl rfl)
theorem dX2_ofPlace_7 : decode cX2_ofPlace 7 = .ok (.iload_n 2, 1) := dk_28 (dk_at dksX2_ofPlace_0 7 rfl rfl)
theorem dX2_ofPlace_8 : decode cX2_ofPlace 8 = .ok (.aload_n 0, 1) := dk_42 (dk_at dksX2_ofPlace_0 8 rfl rfl)
theorem dX2_ofPlace_9 : decode cX2_ofPlace 9 = .ok (.invokevirtual 357, 3) := dk_182 1 101 (dk_at dksX2_ofPlace_0 9 rfl rfl)
theorem dX2_ofPlace_12 : decode cX2_ofPlace 12 = .ok (.if_icmp .ge 19, 3) := dk_162 0 19 (dk_at dksX2_ofPlace_0 12 rfl rfl)
theorem dX2_ofPlace_15 : decode cX2_ofPlace 15 = .ok (.aload_n 0, 1) := dk_42 (dk_at dksX2_ofPlace_0 15 rfl rfl)
theorem dX2_ofPlace_16 : decode cX2_ofPlace 16 = .ok (.iload_n 2, 1) := dk_28 (dk_at dksX2_ofPlace_0 16 rfl rfl)
theorem dX2_ofPlace_17 : decode cX2_ofPlace 17 = .ok (.iload_n 1, 1) := dk_27 (dk_at dksX2_ofPlace_0 17 rfl rfl)
theorem dX2_ofPlace_18 : decode cX2_ofPlace 18 = .ok (.sipush 200, 3) := dk_17 0 200 (dk_at dksX2_ofPlace_0 18 rfl rfl)
theorem dX2_ofPlace_21 : decode cX2_ofPlace 21 = .ok (.isub, 1) := dk_100 (dk_at dksX2_ofPlace_0 21 rfl rfl)
theorem dX2_ofPlace_22 : decode cX2_ofPlace 22 = .ok (.bipush 20, 2) := dk_16 20 (dk_at dksX2_ofPlace_0 22 rfl rfl)
theorem dX2_ofPlace_24 : decode cX2_ofPlace 24 = .ok (.idiv, 1) := dk_108 (dk_at dksX2_ofPlace_1 0 rfl rfl)
theorem dX2_ofPlace_25 : decode cX2_ofPlace 25 = .ok (.invokevirtual 360, 3) := dk_182 1 104 (dk_at dksX2_ofPlace_1 1 rfl rfl)
theorem dX2_ofPlace_28 : decode cX2_ofPlace 28 = .ok (.goto 5, 3) := dk_167 0 5 (dk_at dksX2_ofPlace_1 4 rfl rfl)
theorem dX2_ofPlace_31 : decode cX2_ofPlace 31 = .ok (.bipush (-2), 2) := dk_16 254 (dk_at dksX2_ofPlace_1 7 rfl rfl)
theorem dX2_ofPlace_33 : decode cX2_ofPlace 33 = .ok (.ireturn, 1) := dk_172 (dk_at dksX2_ofPlace_1 9 rfl rfl)
theorem dX2_ofPlace_34 : decode cX2_ofPlace 34 = .ok (.iload_n 2, 1) := dk_28 (dk_at dksX2_ofPlace_1 10 rfl rfl)
theorem dX2_ofPlace_35 : decode cX2_ofPlace 35 = .ok (.aload_n 0, 1) := dk_42 (dk_at dksX2_ofPlace_1 11 rfl rfl)
theorem dX2_ofPlace_36 : decode cX2_ofPlace 36 = .ok (.invokevirtual 366, 3) := dk_182 1 110 (dk_at dksX2_ofPlace_1 12 rfl rfl)
theorem dX2_ofPlace_39 : decode cX2_ofPlace 39 = .ok (.if_icmp .ge 19, 3) := dk_162 0 19 (dk_at dksX2_ofPlace_1 15 rfl rfl)
theorem dX2_ofPlace_42 : decode cX2_ofPlace 42 = .ok (.aload_n 0, 1) := dk_42 (dk_at dksX2_ofPlace_1 18 rfl rfl)
theorem dX2_ofPlace_43 : decode cX2_ofPlace 43 = .ok (.iload_n 2, 1) := dk_28 (dk_at dksX2_ofPlace_1 19 rfl rfl)
theorem dX2_ofPlace_44 : decode cX2_ofPlace 44 = .ok (.iload_n 1, 1) := dk_27 (dk_at dksX2_ofPlace_1 20 rfl rfl)
theorem dX2_ofPlace_45 : decode cX2_ofPlace 45 = .ok (.sipush 300, 3) := dk_17 1 44 (dk_at dksX2_ofPlace_1 21 rfl rfl)
theorem dX2_ofPlace_48 : decode cX2_ofPlace 48 = .ok (.isub, 1) := dk_100 (dk_at dksX2_ofPlace_2 0 rfl rfl)
theorem dX2_ofPlace_49 : decode cX2_ofPlace 49 = .ok (.bipush 20, 2) := dk_16 20 (dk_at dksX2_ofPlace_2 1 rfl rfl)
theorem dX2_ofPlace_51 : decode cX2_ofPlace 51 = .ok (.idiv, 1) := dk_108 (dk_at dksX2_ofPlace_2 3 rfl rfl)
theorem dX2_ofPlace_52 : decode cX2_ofPlace 52 = .ok (.invokevirtual 369, 3) := dk_182 1 113 (dk_at dksX2_ofPlace_2 4 rfl rfl)
theorem dX2_ofPlace_55 : decode cX2_ofPlace 55 = .ok (.goto 5, 3) := dk_167 0 5 (dk_at dksX2_ofPlace_2 7 rfl rfl)
theorem dX2_ofPlace_58 : decode cX2_ofPlace 58 = .ok (.bipush (-2), 2) := dk_16 254 (dk_at dksX2_ofPlace_2 10 rfl rfl)
theorem dX2_ofPlace_60 : decode cX2_ofPlace 60 = .ok (.ireturn, 1) := dk_172 (dk_at dksX2_ofPlace_2 12 rfl rfl)
abbrev cX2_routes : ByteArray := prog_25_method_41_code
def yX2_routes : MethodName := ⟨RX2, "routes", "()I"⟩
def dkwX2_routes_0 : List UInt8 := [42, 6, 182, 1, 79, 172]
abbrev dktX2_routes_0 : List UInt8 := dkwX2_routes_0 ++ []
theorem dksX2_routes_0 : cX2_routes.data.toList.drop 0 = dktX2_routes_0 := by decide +kernel
theorem dX2_routes_0 : decode cX2_routes 0 = .ok (.aload_n 0, 1) := dk_42 (dk_at dksX2_routes_0 0 rfl rfl)
theorem dX2_routes_1 : decode cX2_routes 1 = .ok (.iconst 3, 1) := dk_6 (dk_at dksX2_routes_0 1 rfl rfl)
theorem dX2_routes_2 : decode cX2_routes 2 = .ok (.invokevirtual 335, 3) := dk_182 1 79 (dk_at dksX2_routes_0 2 rfl rfl)
theorem dX2_routes_5 : decode cX2_routes 5 = .ok (.ireturn, 1) := dk_172 (dk_at dksX2_routes_0 5 rfl rfl)
abbrev cX2_routeAt : ByteArray := prog_25_method_42_code
def yX2_routeAt : MethodName := ⟨RX2, "routeAt", "(II)I"⟩
def dkwX2_routeAt_0 : List UInt8 := [42, 16, 56, 7, 27, 104, 96, 28, 96, 182, 1, 79, 172]
abbrev dktX2_routeAt_0 : List UInt8 := dkwX2_routeAt_0 ++ []
theorem dksX2_routeAt_0 : cX2_routeAt.data.toList.drop 0 = dktX2_routeAt_0 := by decide +kernel
theorem dX2_routeAt_0 : decode cX2_routeAt 0 = .ok (.aload_n 0, 1) := dk_42 (dk_at dksX2_routeAt_0 0 rfl rfl)
theorem dX2_routeAt_1 : decode cX2_routeAt 1 = .ok (.bipush 56, 2) := dk_16 56 (dk_at dksX2_routeAt_0 1 rfl rfl)
theorem dX2_routeAt_3 : decode cX2_routeAt 3 = .ok (.iconst 4, 1) := dk_7 (dk_at dksX2_routeAt_0 3 rfl rfl)
theorem dX2_routeAt_4 : decode cX2_routeAt 4 = .ok (.iload_n 1, 1) := dk_27 (dk_at dksX2_routeAt_0 4 rfl rfl)
theorem dX2_routeAt_5 : decode cX2_routeAt 5 = .ok (.imul, 1) := dk_104 (dk_at dksX2_routeAt_0 5 rfl rfl)
theorem dX2_routeAt_6 : decode cX2_routeAt 6 = .ok (.iadd, 1) := dk_96 (dk_at dksX2_routeAt_0 6 rfl rfl)
theorem dX2_routeAt_7 : decode cX2_routeAt 7 = .ok (.iload_n 2, 1) := dk_28 (dk_at dksX2_routeAt_0 7 rfl rfl)
theorem dX2_routeAt_8 : decode cX2_routeAt 8 = .ok (.iadd, 1) := dk_96 (dk_at dksX2_routeAt_0 8 rfl rfl)
theorem dX2_routeAt_9 : decode cX2_routeAt 9 = .ok (.invokevirtual 335, 3) := dk_182 1 79 (dk_at dksX2_routeAt_0 9 rfl rfl)
theorem dX2_routeAt_12 : decode cX2_routeAt 12 = .ok (.ireturn, 1) := dk_172 (dk_at dksX2_routeAt_0 12 rfl rfl)
abbrev cX2_serves : ByteArray := prog_25_method_43_code
def yX2_serves : MethodName := ⟨RX2, "serves", "()I"⟩
def dkwX2_serves_0 : List UInt8 := [42, 7, 182, 1, 79, 172]
abbrev dktX2_serves_0 : List UInt8 := dkwX2_serves_0 ++ []
theorem dksX2_serves_0 : cX2_serves.data.toList.drop 0 = dktX2_serves_0 := by decide +kernel
theorem dX2_serves_0 : decode cX2_serves 0 = .ok (.aload_n 0, 1) := dk_42 (dk_at dksX2_serves_0 0 rfl rfl)
theorem dX2_serves_1 : decode cX2_serves 1 = .ok (.iconst 4, 1) := dk_7 (dk_at dksX2_serves_0 1 rfl rfl)
theorem dX2_serves_2 : decode cX2_serves 2 = .ok (.invokevirtual 335, 3) := dk_182 1 79 (dk_at dksX2_serves_0 2 rfl rfl)
theorem dX2_serves_5 : decode cX2_serves 5 = .ok (.ireturn, 1) := dk_172 (dk_at dksX2_serves_0 5 rfl rfl)
abbrev cX2_serveAt : ByteArray := prog_25_method_44_code
def yX2_serveAt : MethodName := ⟨RX2, "serveAt", "(II)I"⟩
def dkwX2_serveAt_0 : List UInt8 := [42, 16, 104, 6, 27, 104, 96, 28, 96, 182, 1, 79, 172]
abbrev dktX2_serveAt_0 : List UInt8 := dkwX2_serveAt_0 ++ []
theorem dksX2_serveAt_0 : cX2_serveAt.data.toList.drop 0 = dktX2_serveAt_0 := by decide +kernel
theorem dX2_serveAt_0 : decode cX2_serveAt 0 = .ok (.aload_n 0, 1) := dk_42 (dk_at dksX2_serveAt_0 0 rfl rfl)
theorem dX2_serveAt_1 : decode cX2_serveAt 1 = .ok (.bipush 104, 2) := dk_16 104 (dk_at dksX2_serveAt_0 1 rfl rfl)
theorem dX2_serveAt_3 : decode cX2_serveAt 3 = .ok (.iconst 3, 1) := dk_6 (dk_at dksX2_serveAt_0 3 rfl rfl)
theorem dX2_serveAt_4 : decode cX2_serveAt 4 = .ok (.iload_n 1, 1) := dk_27 (dk_at dksX2_serveAt_0 4 rfl rfl)
theorem dX2_serveAt_5 : decode cX2_serveAt 5 = .ok (.imul, 1) := dk_104 (dk_at dksX2_serveAt_0 5 rfl rfl)
theorem dX2_serveAt_6 : decode cX2_serveAt 6 = .ok (.iadd, 1) := dk_96 (dk_at dksX2_serveAt_0 6 rfl rfl)
theorem dX2_serveAt_7 : decode cX2_serveAt 7 = .ok (.iload_n 2, 1) := dk_28 (dk_at dksX2_serveAt_0 7 rfl rfl)
theorem dX2_serveAt_8 : decode cX2_serveAt 8 = .ok (.iadd, 1) := dk_96 (dk_at dksX2_serveAt_0 8 rfl rfl)
theorem dX2_serveAt_9 : decode cX2_serveAt 9 = .ok (.invokevirtual 335, 3) := dk_182 1 79 (dk_at dksX2_serveAt_0 9 rfl rfl)
theorem dX2_serveAt_12 : decode cX2_serveAt 12 = .ok (.ireturn, 1) := dk_172 (dk_at dksX2_serveAt_0 12 rfl rfl)
abbrev cX2_deed : ByteArray := prog_25_method_90_code
def yX2_deed : MethodName := ⟨RX2, "deed", "(III)I"⟩
def dkwX2_deed_2 : List UInt8 := [153, 0, 21, 29, 3, 5, 184, 0, 181, 153, 0, 12, 42, 28, 29, 182, 2, 25, 167, 0, 5, 16, 254, 172]
abbrev dktX2_deed_2 : List UInt8 := dkwX2_deed_2 ++ []
def dkwX2_deed_1 : List UInt8 := [154, 0, 10, 42, 182, 2, 22, 167, 0, 5, 16, 254, 172, 28, 3, 42, 182, 2, 22, 4, 100, 184, 0, 181]
abbrev dktX2_deed_1 : List UInt8 := dkwX2_deed_1 ++ dktX2_deed_2
def dkwX2_deed_0 : List UInt8 := [42, 3, 181, 0, 169, 42, 27, 182, 2, 19, 154, 0, 6, 16, 254, 172, 28, 2, 160, 0, 17, 29]
abbrev dktX2_deed_0 : List UInt8 := dkwX2_deed_0 ++ dktX2_deed_1
theorem dksX2_deed_0 : cX2_deed.data.toList.drop 0 = dktX2_deed_0 := by decide +kernel
theorem dksX2_deed_1 : cX2_deed.data.toList.drop 22 = dktX2_deed_1 := dk_seg dksX2_deed_0 22 rfl rfl
theorem dksX2_deed_2 : cX2_deed.data.toList.drop 46 = dktX2_deed_2 := dk_seg dksX2_deed_1 24 rfl rfl
theorem dX2_deed_0 : decode cX2_deed 0 = .ok (.aload_n 0, 1) := dk_42 (dk_at dksX2_deed_0 0 rfl rfl)
theorem dX2_deed_1 : decode cX2_deed 1 = .ok (.iconst 0, 1) := dk_3 (dk_at dksX2_deed_0 1 rfl rfl)
theorem dX2_deed_2 : decode cX2_deed 2 = .ok (.putfield 169, 3) := dk_181 0 169 (dk_at dksX2_deed_0 2 rfl rfl)
theorem dX2_deed_5 : decode cX2_deed 5 = .ok (.aload_n 0, 1) := dk_42 (dk_at dksX2_deed_0 5 rfl rfl)
theorem dX2_deed_6 : decode cX2_deed 6 = .ok (.iload_n 1, 1) := dk_27 (dk_at dksX2_deed_0 6 rfl rfl)
theorem dX2_deed_7 : decode cX2_deed 7 = .ok (.invokevirtual 531, 3) := dk_182 2 19 (dk_at dksX2_deed_0 7 rfl rfl)
theorem dX2_deed_10 : decode cX2_deed 10 = .ok (.ifCond .ne 6, 3) := dk_154 0 6 (dk_at dksX2_deed_0 10 rfl rfl)
theorem dX2_deed_13 : decode cX2_deed 13 = .ok (.bipush (-2), 2) := dk_16 254 (dk_at dksX2_deed_0 13 rfl rfl)
theorem dX2_deed_15 : decode cX2_deed 15 = .ok (.ireturn, 1) := dk_172 (dk_at dksX2_deed_0 15 rfl rfl)
theorem dX2_deed_16 : decode cX2_deed 16 = .ok (.iload_n 2, 1) := dk_28 (dk_at dksX2_deed_0 16 rfl rfl)
theorem dX2_deed_17 : decode cX2_deed 17 = .ok (.iconst (-1), 1) := dk_2 (dk_at dksX2_deed_0 17 rfl rfl)
theorem dX2_deed_18 : decode cX2_deed 18 = .ok (.if_icmp .ne 17, 3) := dk_160 0 17 (dk_at dksX2_deed_0 18 rfl rfl)
theorem dX2_deed_21 : decode cX2_deed 21 = .ok (.iload_n 3, 1) := dk_29 (dk_at dksX2_deed_0 21 rfl rfl)
theorem dX2_deed_22 : decode cX2_deed 22 = .ok (.ifCond .ne 10, 3) := dk_154 0 10 (dk_at dksX2_deed_1 0 rfl rfl)
theorem dX2_deed_25 : decode cX2_deed 25 = .ok (.aload_n 0, 1) := dk_42 (dk_at dksX2_deed_1 3 rfl rfl)
theorem dX2_deed_26 : decode cX2_deed 26 = .ok (.invokevirtual 534, 3) := dk_182 2 22 (dk_at dksX2_deed_1 4 rfl rfl)
theorem dX2_deed_29 : decode cX2_deed 29 = .ok (.goto 5, 3) := dk_167 0 5 (dk_at dksX2_deed_1 7 rfl rfl)
theorem dX2_deed_32 : decode cX2_deed 32 = .ok (.bipush (-2), 2) := dk_16 254 (dk_at dksX2_deed_1 10 rfl rfl)
theorem dX2_deed_34 : decode cX2_deed 34 = .ok (.ireturn, 1) := dk_172 (dk_at dksX2_deed_1 12 rfl rfl)
theorem dX2_deed_35 : decode cX2_deed 35 = .ok (.iload_n 2, 1) := dk_28 (dk_at dksX2_deed_1 13 rfl rfl)
theorem dX2_deed_36 : decode cX2_deed 36 = .ok (.iconst 0, 1) := dk_3 (dk_at dksX2_deed_1 14 rfl rfl)
theorem dX2_deed_37 : decode cX2_deed 37 = .ok (.aload_n 0, 1) := dk_42 (dk_at dksX2_deed_1 15 rfl rfl)
theorem dX2_deed_38 : decode cX2_deed 38 = .ok (.invokevirtual 534, 3) := dk_182 2 22 (dk_at dksX2_deed_1 16 rfl rfl)
theorem dX2_deed_41 : decode cX2_deed 41 = .ok (.iconst 1, 1) := dk_4 (dk_at dksX2_deed_1 19 rfl rfl)
theorem dX2_deed_42 : decode cX2_deed 42 = .ok (.isub, 1) := dk_100 (dk_at dksX2_deed_1 20 rfl rfl)
theorem dX2_deed_43 : decode cX2_deed 43 = .ok (.invokestatic 181, 3) := dk_184 0 181 (dk_at dksX2_deed_1 21 rfl rfl)
theorem dX2_deed_46 : decode cX2_deed 46 = .ok (.ifCond .eq 21, 3) := dk_153 0 21 (dk_at dksX2_deed_2 0 rfl rfl)
theorem dX2_deed_49 : decode cX2_deed 49 = .ok (.iload_n 3, 1) := dk_29 (dk_at dksX2_deed_2 3 rfl rfl)
theorem dX2_deed_50 : decode cX2_deed 50 = .ok (.iconst 0, 1) := dk_3 (dk_at dksX2_deed_2 4 rfl rfl)
theorem dX2_deed_51 : decode cX2_deed 51 = .ok (.iconst 2, 1) := dk_5 (dk_at dksX2_deed_2 5 rfl rfl)
theorem dX2_deed_52 : decode cX2_deed 52 = .ok (.invokestatic 181, 3) := dk_184 0 181 (dk_at dksX2_deed_2 6 rfl rfl)
theorem dX2_deed_55 : decode cX2_deed 55 = .ok (.ifCond .eq 12, 3) := dk_153 0 12 (dk_at dksX2_deed_2 9 rfl rfl)
theorem dX2_deed_58 : decode cX2_deed 58 = .ok (.aload_n 0, 1) := dk_42 (dk_at dksX2_deed_2 12 rfl rfl)
theorem dX2_deed_59 : decode cX2_deed 59 = .ok (.iload_n 2, 1) := dk_28 (dk_at dksX2_deed_2 13 rfl rfl)
theorem dX2_deed_60 : decode cX2_deed 60 = .ok (.iload_n 3, 1) := dk_29 (dk_at dksX2_deed_2 14 rfl rfl)
theorem dX2_deed_61 : decode cX2_deed 61 = .ok (.invokevirtual 537, 3) := dk_182 2 25 (dk_at dksX2_deed_2 15 rfl rfl)
theorem dX2_deed_64 : decode cX2_deed 64 = .ok (.goto 5, 3) := dk_167 0 5 (dk_at dksX2_deed_2 18 rfl rfl)
theorem dX2_deed_67 : decode cX2_deed 67 = .ok (.bipush (-2), 2) := dk_16 254 (dk_at dksX2_deed_2 21 rfl rfl)
theorem dX2_deed_69 : decode cX2_deed 69 = .ok (.ireturn, 1) := dk_172 (dk_at dksX2_deed_2 23 rfl rfl)
abbrev cX2_hasRun : ByteArray := prog_25_method_89_code
def yX2_hasRun : MethodName := ⟨RX2, "hasRun", "(I)Z"⟩
def dkwX2_hasRun_0 : List UInt8 := [42, 27, 181, 2, 16, 42, 4, 27, 182, 1, 66, 172]
abbrev dktX2_hasRun_0 : List UInt8 := dkwX2_hasRun_0 ++ []
theorem dksX2_hasRun_0 : cX2_hasRun.data.toList.drop 0 = dktX2_hasRun_0 := by decide +kernel
theorem dX2_hasRun_0 : decode cX2_hasRun 0 = .ok (.aload_n 0, 1) := dk_42 (dk_at dksX2_hasRun_0 0 rfl rfl)
theorem dX2_hasRun_1 : decode cX2_hasRun 1 = .ok (.iload_n 1, 1) := dk_27 (dk_at dksX2_hasRun_0 1 rfl rfl)
theorem dX2_hasRun_2 : decode cX2_hasRun 2 = .ok (.putfield 528, 3) := dk_181 2 16 (dk_at dksX2_hasRun_0 2 rfl rfl)
theorem dX2_hasRun_5 : decode cX2_hasRun 5 = .ok (.aload_n 0, 1) := dk_42 (dk_at dksX2_hasRun_0 5 rfl rfl)
theorem dX2_hasRun_6 : decode cX2_hasRun 6 = .ok (.iconst 1, 1) := dk_4 (dk_at dksX2_hasRun_0 6 rfl rfl)
theorem dX2_hasRun_7 : decode cX2_hasRun 7 = .ok (.iload_n 1, 1) := dk_27 (dk_at dksX2_hasRun_0 7 rfl rfl)
theorem dX2_hasRun_8 : decode cX2_hasRun 8 = .ok (.invokevirtual 322, 3) := dk_182 1 66 (dk_at dksX2_hasRun_0 8 rfl rfl)
theorem dX2_hasRun_11 : decode cX2_hasRun 11 = .ok (.ireturn, 1) := dk_172 (dk_at dksX2_hasRun_0 11 rfl rfl)
abbrev cX2_deeds : ByteArray := prog_25_method_87_code
def yX2_deeds : MethodName := ⟨RX2, "deeds", "()I"⟩
def dkwX2_deeds_0 : List UInt8 := [42, 180, 0, 29, 16, 121, 42, 180, 2, 16, 104, 46, 172]
abbrev dktX2_deeds_0 : List UInt8 := dkwX2_deeds_0 ++ []
theorem dksX2_deeds_0 : cX2_deeds.data.toList.drop 0 = dktX2_deeds_0 := by decide +kernel
theorem dX2_deeds_0 : decode cX2_deeds 0 = .ok (.aload_n 0, 1) := dk_42 (dk_at dksX2_deeds_0 0 rfl rfl)
theorem dX2_deeds_1 : decode cX2_deeds 1 = .ok (.getfield 29, 3) := dk_180 0 29 (dk_at dksX2_deeds_0 1 rfl rfl)
theorem dX2_deeds_4 : decode cX2_deeds 4 = .ok (.bipush 121, 2) := dk_16 121 (dk_at dksX2_deeds_0 4 rfl rfl)
theorem dX2_deeds_6 : decode cX2_deeds 6 = .ok (.aload_n 0, 1) := dk_42 (dk_at dksX2_deeds_0 6 rfl rfl)
theorem dX2_deeds_7 : decode cX2_deeds 7 = .ok (.getfield 528, 3) := dk_180 2 16 (dk_at dksX2_deeds_0 7 rfl rfl)
theorem dX2_deeds_10 : decode cX2_deeds 10 = .ok (.imul, 1) := dk_104 (dk_at dksX2_deeds_0 10 rfl rfl)
theorem dX2_deeds_11 : decode cX2_deeds 11 = .ok (.iaload, 1) := dk_46 (dk_at dksX2_deeds_0 11 rfl rfl)
theorem dX2_deeds_12 : decode cX2_deeds 12 = .ok (.ireturn, 1) := dk_172 (dk_at dksX2_deeds_0 12 rfl rfl)
abbrev cX2_deedOf : ByteArray := prog_25_method_88_code
def yX2_deedOf : MethodName := ⟨RX2, "deedOf", "(II)I"⟩
def dkwX2_deedOf_0 : List UInt8 := [42, 180, 0, 29, 16, 121, 42, 180, 2, 16, 104, 4, 96, 6, 27, 104, 96, 28, 96, 46, 172]
abbrev dktX2_deedOf_0 : List UInt8 := dkwX2_deedOf_0 ++ []
theorem dksX2_deedOf_0 : cX2_deedOf.data.toList.drop 0 = dktX2_deedOf_0 := by decide +kernel
theorem dX2_deedOf_0 : decode cX2_deedOf 0 = .ok (.aload_n 0, 1) := dk_42 (dk_at dksX2_deedOf_0 0 rfl rfl)
theorem dX2_deedOf_1 : decode cX2_deedOf 1 = .ok (.getfield 29, 3) := dk_180 0 29 (dk_at dksX2_deedOf_0 1 rfl rfl)
theorem dX2_deedOf_4 : decode cX2_deedOf 4 = .ok (.bipush 121, 2) := dk_16 121 (dk_at dksX2_deedOf_0 4 rfl rfl)
theorem dX2_deedOf_6 : decode cX2_deedOf 6 = .ok (.aload_n 0, 1) := dk_42 (dk_at dksX2_deedOf_0 6 rfl rfl)
theorem dX2_deedOf_7 : decode cX2_deedOf 7 = .ok (.getfield 528, 3) := dk_180 2 16 (dk_at dksX2_deedOf_0 7 rfl rfl)
theorem dX2_deedOf_10 : decode cX2_deedOf 10 = .ok (.imul, 1) := dk_104 (dk_at dksX2_deedOf_0 10 rfl rfl)
theorem dX2_deedOf_11 : decode cX2_deedOf 11 = .ok (.iconst 1, 1) := dk_4 (dk_at dksX2_deedOf_0 11 rfl rfl)
theorem dX2_deedOf_12 : decode cX2_deedOf 12 = .ok (.iadd, 1) := dk_96 (dk_at dksX2_deedOf_0 12 rfl rfl)
theorem dX2_deedOf_13 : decode cX2_deedOf 13 = .ok (.iconst 3, 1) := dk_6 (dk_at dksX2_deedOf_0 13 rfl rfl)
theorem dX2_deedOf_14 : decode cX2_deedOf 14 = .ok (.iload_n 1, 1) := dk_27 (dk_at dksX2_deedOf_0 14 rfl rfl)
theorem dX2_deedOf_15 : decode cX2_deedOf 15 = .ok (.imul, 1) := dk_104 (dk_at dksX2_deedOf_0 15 rfl rfl)
theorem dX2_deedOf_16 : decode cX2_deedOf 16 = .ok (.iadd, 1) := dk_96 (dk_at dksX2_deedOf_0 16 rfl rfl)
theorem dX2_deedOf_17 : decode cX2_deedOf 17 = .ok (.iload_n 2, 1) := dk_28 (dk_at dksX2_deedOf_0 17 rfl rfl)
theorem dX2_deedOf_18 : decode cX2_deedOf 18 = .ok (.iadd, 1) := dk_96 (dk_at dksX2_deedOf_0 18 rfl rfl)
theorem dX2_deedOf_19 : decode cX2_deedOf 19 = .ok (.iaload, 1) := dk_46 (dk_at dksX2_deedOf_0 19 rfl rfl)
theorem dX2_deedOf_20 : decode cX2_deedOf 20 = .ok (.ireturn, 1) := dk_172 (dk_at dksX2_deedOf_0 20 rfl rfl)
abbrev cX2_stop : ByteArray := prog_25_method_94_code
def yX2_stop : MethodName := ⟨RX2, "stop", "(II)I"⟩
def dkwX2_stop_1 : List UInt8 := [167, 0, 4, 2, 172]
abbrev dktX2_stop_1 : List UInt8 := dkwX2_stop_1 ++ []
def dkwX2_stop_0 : List UInt8 := [42, 3, 181, 0, 169, 42, 27, 28, 182, 2, 40, 153, 0, 14, 42, 42, 182, 2, 22, 182, 2, 43]
abbrev dktX2_stop_0 : List UInt8 := dkwX2_stop_0 ++ dktX2_stop_1
theorem dksX2_stop_0 : cX2_stop.data.toList.drop 0 = dktX2_stop_0 := by decide +kernel
theorem dksX2_stop_1 : cX2_stop.data.toList.drop 22 = dktX2_stop_1 := dk_seg dksX2_stop_0 22 rfl rfl
theorem dX2_stop_0 : decode cX2_stop 0 = .ok (.aload_n 0, 1) := dk_42 (dk_at dksX2_stop_0 0 rfl rfl)
theorem dX2_stop_1 : decode cX2_stop 1 = .ok (.iconst 0, 1) := dk_3 (dk_at dksX2_stop_0 1 rfl rfl)
theorem dX2_stop_2 : decode cX2_stop 2 = .ok (.putfield 169, 3) := dk_181 0 169 (dk_at dksX2_stop_0 2 rfl rfl)
theorem dX2_stop_5 : decode cX2_stop 5 = .ok (.aload_n 0, 1) := dk_42 (dk_at dksX2_stop_0 5 rfl rfl)
theorem dX2_stop_6 : decode cX2_stop 6 = .ok (.iload_n 1, 1) := dk_27 (dk_at dksX2_stop_0 6 rfl rfl)
theorem dX2_stop_7 : decode cX2_stop 7 = .ok (.iload_n 2, 1) := dk_28 (dk_at dksX2_stop_0 7 rfl rfl)
theorem dX2_stop_8 : decode cX2_stop 8 = .ok (.invokevirtual 552, 3) := dk_182 2 40 (dk_at dksX2_stop_0 8 rfl rfl)
theorem dX2_stop_11 : decode cX2_stop 11 = .ok (.ifCond .eq 14, 3) := dk_153 0 14 (dk_at dksX2_stop_0 11 rfl rfl)
theorem dX2_stop_14 : decode cX2_stop 14 = .ok (.aload_n 0, 1) := dk_42 (dk_at dksX2_stop_0 14 rfl rfl)
theorem dX2_stop_15 : decode cX2_stop 15 = .ok (.aload_n 0, 1) := dk_42 (dk_at dksX2_stop_0 15 rfl rfl)
theorem dX2_stop_16 : decode cX2_stop 16 = .ok (.invokevirtual 534, 3) := dk_182 2 22 (dk_at dksX2_stop_0 16 rfl rfl)
theorem dX2_stop_19 : decode cX2_stop 19 = .ok (.invokevirtual 555, 3) := dk_182 2 43 (dk_at dksX2_stop_0 19 rfl rfl)
theorem dX2_stop_22 : decode cX2_stop 22 = .ok (.goto 4, 3) := dk_167 0 4 (dk_at dksX2_stop_1 0 rfl rfl)
theorem dX2_stop_25 : decode cX2_stop 25 = .ok (.iconst (-1), 1) := dk_2 (dk_at dksX2_stop_1 3 rfl rfl)
theorem dX2_stop_26 : decode cX2_stop 26 = .ok (.ireturn, 1) := dk_172 (dk_at dksX2_stop_1 4 rfl rfl)
abbrev cX2_lay : ByteArray := prog_25_method_93_code
def yX2_lay : MethodName := ⟨RX2, "lay", "(II)Z"⟩
def dkwX2_lay_1 : List UInt8 := [172]
abbrev dktX2_lay_1 : List UInt8 := dkwX2_lay_1 ++ []
def dkwX2_lay_0 : List UInt8 := [42, 28, 182, 2, 19, 153, 0, 11, 42, 27, 182, 1, 116, 154, 0, 5, 3, 172, 42, 2, 182, 2, 37, 4]
abbrev dktX2_lay_0 : List UInt8 := dkwX2_lay_0 ++ dktX2_lay_1
theorem dksX2_lay_0 : cX2_lay.data.toList.drop 0 = dktX2_lay_0 := by decide +kernel
theorem dksX2_lay_1 : cX2_lay.data.toList.drop 24 = dktX2_lay_1 := dk_seg dksX2_lay_0 24 rfl rfl
theorem dX2_lay_0 : decode cX2_lay 0 = .ok (.aload_n 0, 1) := dk_42 (dk_at dksX2_lay_0 0 rfl rfl)
theorem dX2_lay_1 : decode cX2_lay 1 = .ok (.iload_n 2, 1) := dk_28 (dk_at dksX2_lay_0 1 rfl rfl)
theorem dX2_lay_2 : decode cX2_lay 2 = .ok (.invokevirtual 531, 3) := dk_182 2 19 (dk_at dksX2_lay_0 2 rfl rfl)
theorem dX2_lay_5 : decode cX2_lay 5 = .ok (.ifCond .eq 11, 3) := dk_153 0 11 (dk_at dksX2_lay_0 5 rfl rfl)
theorem dX2_lay_8 : decode cX2_lay 8 = .ok (.aload_n 0, 1) := dk_42 (dk_at dksX2_lay_0 8 rfl rfl)
theorem dX2_lay_9 : decode cX2_lay 9 = .ok (.iload_n 1, 1) := dk_27 (dk_at dksX2_lay_0 9 rfl rfl)
theorem dX2_lay_10 : decode cX2_lay 10 = .ok (.invokevirtual 372, 3) := dk_182 1 116 (dk_at dksX2_lay_0 10 rfl rfl)
theorem dX2_lay_13 : decode cX2_lay 13 = .ok (.ifCond .ne 5, 3) := dk_154 0 5 (dk_at dksX2_lay_0 13 rfl rfl)
theorem dX2_lay_16 : decode cX2_lay 16 = .ok (.iconst 0, 1) := dk_3 (dk_at dksX2_lay_0 16 rfl rfl)
theorem dX2_lay_17 : decode cX2_lay 17 = .ok (.ireturn, 1) := dk_172 (dk_at dksX2_lay_0 17 rfl rfl)
theorem dX2_lay_18 : decode cX2_lay 18 = .ok (.aload_n 0, 1) := dk_42 (dk_at dksX2_lay_0 18 rfl rfl)
theorem dX2_lay_19 : decode cX2_lay 19 = .ok (.iconst (-1), 1) := dk_2 (dk_at dksX2_lay_0 19 rfl rfl)
theorem dX2_lay_20 : decode cX2_lay 20 = .ok (.invokevirtual 549, 3) := dk_182 2 37 (dk_at dksX2_lay_0 20 rfl rfl)
theorem dX2_lay_23 : decode cX2_lay 23 = .ok (.iconst 1, 1) := dk_4 (dk_at dksX2_lay_0 23 rfl rfl)
theorem dX2_lay_24 : decode cX2_lay 24 = .ok (.ireturn, 1) := dk_172 (dk_at dksX2_lay_1 0 rfl rfl)
abbrev cX2_begin : ByteArray := prog_25_method_55_code
def yX2_begin : MethodName := ⟨RX2, "begin", "(I)V"⟩
def dkwX2_begin_5 : List UInt8 := [28, 2, 79, 132, 2, 1, 167, 255, 240, 177]
abbrev dktX2_begin_5 : List UInt8 := dkwX2_begin_5 ++ []
def dkwX2_begin_4 : List UInt8 := [180, 0, 48, 28, 2, 79, 132, 2, 1, 167, 255, 240, 3, 61, 28, 16, 64, 162, 0, 16, 42, 180, 0, 129]
abbrev dktX2_begin_4 : List UInt8 := dkwX2_begin_4 ++ dktX2_begin_5
def dkwX2_begin_3 : List UInt8 := [3, 79, 42, 180, 0, 63, 28, 3, 79, 132, 2, 1, 167, 255, 226, 3, 61, 28, 16, 36, 162, 0, 16, 42]
abbrev dktX2_begin_3 : List UInt8 := dkwX2_begin_3 ++ dktX2_begin_4
def dkwX2_begin_2 : List UInt8 := [3, 181, 1, 149, 3, 61, 28, 16, 6, 162, 0, 30, 42, 180, 0, 44, 28, 9, 80, 42, 180, 0, 51, 28]
abbrev dktX2_begin_2 : List UInt8 := dkwX2_begin_2 ++ dktX2_begin_3
def dkwX2_begin_1 : List UInt8 := [181, 1, 134, 42, 3, 181, 1, 137, 42, 3, 181, 1, 140, 42, 3, 181, 1, 143, 42, 3, 181, 1, 146, 42]
abbrev dktX2_begin_1 : List UInt8 := dkwX2_begin_1 ++ dktX2_begin_2
def dkwX2_begin_0 : List UInt8 := [42, 27, 182, 1, 122, 42, 3, 181, 1, 95, 42, 3, 181, 1, 128, 42, 3, 181, 1, 131, 42, 3]
abbrev dktX2_begin_0 : List UInt8 := dkwX2_begin_0 ++ dktX2_begin_1
theorem dksX2_begin_0 : cX2_begin.data.toList.drop 0 = dktX2_begin_0 := by decide +kernel
theorem dksX2_begin_1 : cX2_begin.data.toList.drop 22 = dktX2_begin_1 := dk_seg dksX2_begin_0 22 rfl rfl
theorem dksX2_begin_2 : cX2_begin.data.toList.drop 46 = dktX2_begin_2 := dk_seg dksX2_begin_1 24 rfl rfl
theorem dksX2_begin_3 : cX2_begin.data.toList.drop 70 = dktX2_begin_3 := dk_seg dksX2_begin_2 24 rfl rfl
theorem dksX2_begin_4 : cX2_begin.data.toList.drop 94 = dktX2_begin_4 := dk_seg dksX2_begin_3 24 rfl rfl
theorem dksX2_begin_5 : cX2_begin.data.toList.drop 118 = dktX2_begin_5 := dk_seg dksX2_begin_4 24 rfl rfl
theorem dX2_begin_0 : decode cX2_begin 0 = .ok (.aload_n 0, 1) := dk_42 (dk_at dksX2_begin_0 0 rfl rfl)
theorem dX2_begin_1 : decode cX2_begin 1 = .ok (.iload_n 1, 1) := dk_27 (dk_at dksX2_begin_0 1 rfl rfl)
theorem dX2_begin_2 : decode cX2_begin 2 = .ok (.invokevirtual 378, 3) := dk_182 1 122 (dk_at dksX2_begin_0 2 rfl rfl)
theorem dX2_begin_5 : decode cX2_begin 5 = .ok (.aload_n 0, 1) := dk_42 (dk_at dksX2_begin_0 5 rfl rfl)
theorem dX2_begin_6 : decode cX2_begin 6 = .ok (.iconst 0, 1) := dk_3 (dk_at dksX2_begin_0 6 rfl rfl)
theorem dX2_begin_7 : decode cX2_begin 7 = .ok (.putfield 351, 3) := dk_181 1 95 (dk_at dksX2_begin_0 7 rfl rfl)
theorem dX2_begin_10 : decode cX2_begin 10 = .ok (.aload_n 0, 1) := dk_42 (dk_at dksX2_begin_0 10 rfl rfl)
theorem dX2_begin_11 : decode cX2_begin 11 = .ok (.iconst 0, 1) := dk_3 (dk_at dksX2_begin_0 11 rfl rfl)
theorem dX2_begin_12 : decode cX2_begin 12 = .ok (.putfield 384, 3) := dk_181 1 128 (dk_at dksX2_begin_0 12 rfl rfl)
theorem dX2_begin_15 : decode cX2_begin 15 = .ok (.aload_n 0, 1) := dk_42 (dk_at dksX2_begin_0 15 rfl rfl)
theorem dX2_begin_16 : decode cX2_begin 16 = .ok (.iconst 0, 1) := dk_3 (dk_at dksX2_begin_0 16 rfl rfl)
theorem dX2_begin_17 : decode cX2_begin 17 = .ok (.putfield 387, 3) := dk_181 1 131 (dk_at dksX2_begin_0 17 rfl rfl)
theorem dX2_begin_20 : decode cX2_begin 20 = .ok (.aload_n 0, 1) := dk_42 (dk_at dksX2_begin_0 20 rfl rfl)
theorem dX2_begin_21 : decode cX2_begin 21 = .ok (.iconst 0, 1) := dk_3 (dk_at dksX2_begin_0 21 rfl rfl)
theorem dX2_begin_22 : decode cX2_begin 22 = .ok (.putfield 390, 3) := dk_181 1 134 (dk_at dksX2_begin_1 0 rfl rfl)
theorem dX2_begin_25 : decode cX2_begin 25 = .ok (.aload_n 0, 1) := dk_42 (dk_at dksX2_begin_1 3 rfl rfl)
theorem dX2_begin_26 : decode cX2_begin 26 = .ok (.iconst 0, 1) := dk_3 (dk_at dksX2_begin_1 4 rfl rfl)
theorem dX2_begin_27 : decode cX2_begin 27 = .ok (.putfield 393, 3) := dk_181 1 137 (dk_at dksX2_begin_1 5 rfl rfl)
theorem dX2_begin_30 : decode cX2_begin 30 = .ok (.aload_n 0, 1) := dk_42 (dk_at dksX2_begin_1 8 rfl rfl)
theorem dX2_begin_31 : decode cX2_begin 31 = .ok (.iconst 0, 1) := dk_3 (dk_at dksX2_begin_1 9 rfl rfl)
theorem dX2_begin_32 : decode cX2_begin 32 = .ok (.putfield 396, 3) := dk_181 1 140 (dk_at dksX2_begin_1 10 rfl rfl)
theorem dX2_begin_35 : decode cX2_begin 35 = .ok (.aload_n 0, 1) := dk_42 (dk_at dksX2_begin_1 13 rfl rfl)
theorem dX2_begin_36 : decode cX2_begin 36 = .ok (.iconst 0, 1) := dk_3 (dk_at dksX2_begin_1 14 rfl rfl)
theorem dX2_begin_37 : decode cX2_begin 37 = .ok (.putfield 399, 3) := dk_181 1 143 (dk_at dksX2_begin_1 15 rfl rfl)
theorem dX2_begin_40 : decode cX2_begin 40 = .ok (.aload_n 0, 1) := dk_42 (dk_at dksX2_begin_1 18 rfl rfl)
theorem dX2_begin_41 : decode cX2_begin 41 = .ok (.iconst 0, 1) := dk_3 (dk_at dksX2_begin_1 19 rfl rfl)
theorem dX2_begin_42 : decode cX2_begin 42 = .ok (.putfield 402, 3) := dk_181 1 146 (dk_at dksX2_begin_1 20 rfl rfl)
theorem dX2_begin_45 : decode cX2_begin 45 = .ok (.aload_n 0, 1) := dk_42 (dk_at dksX2_begin_1 23 rfl rfl)
theorem dX2_begin_46 : decode cX2_begin 46 = .ok (.iconst 0, 1) := dk_3 (dk_at dksX2_begin_2 0 rfl rfl)
theorem dX2_begin_47 : decode cX2_begin 47 = .ok (.putfield 405, 3) := dk_181 1 149 (dk_at dksX2_begin_2 1 rfl rfl)
theorem dX2_begin_50 : decode cX2_begin 50 = .ok (.iconst 0, 1) := dk_3 (dk_at dksX2_begin_2 4 rfl rfl)
theorem dX2_begin_51 : decode cX2_begin 51 = .ok (.istore_n 2, 1) := dk_61 (dk_at dksX2_begin_2 5 rfl rfl)
theorem dX2_begin_52 : decode cX2_begin 52 = .ok (.iload_n 2, 1) := dk_28 (dk_at dksX2_begin_2 6 rfl rfl)
theorem dX2_begin_53 : decode cX2_begin 53 = .ok (.bipush 6, 2) := dk_16 6 (dk_at dksX2_begin_2 7 rfl rfl)
theorem dX2_begin_55 : decode cX2_begin 55 = .ok (.if_icmp .ge 30, 3) := dk_162 0 30 (dk_at dksX2_begin_2 9 rfl rfl)
theorem dX2_begin_58 : decode cX2_begin 58 = .ok (.aload_n 0, 1) := dk_42 (dk_at dksX2_begin_2 12 rfl rfl)
theorem dX2_begin_59 : decode cX2_begin 59 = .ok (.getfield 44, 3) := dk_180 0 44 (dk_at dksX2_begin_2 13 rfl rfl)
theorem dX2_begin_62 : decode cX2_begin 62 = .ok (.iload_n 2, 1) := dk_28 (dk_at dksX2_begin_2 16 rfl rfl)
theorem dX2_begin_63 : decode cX2_begin 63 = .ok (.lconst 0, 1) := dk_9 (dk_at dksX2_begin_2 17 rfl rfl)
theorem dX2_begin_64 : decode cX2_begin 64 = .ok (.lastore, 1) := dk_80 (dk_at dksX2_begin_2 18 rfl rfl)
theorem dX2_begin_65 : decode cX2_begin 65 = .ok (.aload_n 0, 1) := dk_42 (dk_at dksX2_begin_2 19 rfl rfl)
theorem dX2_begin_66 : decode cX2_begin 66 = .ok (.getfield 51, 3) := dk_180 0 51 (dk_at dksX2_begin_2 20 rfl rfl)
theorem dX2_begin_69 : decode cX2_begin 69 = .ok (.iload_n 2, 1) := dk_28 (dk_at dksX2_begin_2 23 rfl rfl)
theorem dX2_begin_70 : decode cX2_begin 70 = .ok (.iconst 0, 1) := dk_3 (dk_at dksX2_begin_3 0 rfl rfl)
theorem dX2_begin_71 : decode cX2_begin 71 = .ok (.iastore, 1) := dk_79 (dk_at dksX2_begin_3 1 rfl rfl)
theorem dX2_begin_72 : decode cX2_begin 72 = .ok (.aload_n 0, 1) := dk_42 (dk_at dksX2_begin_3 2 rfl rfl)
theorem dX2_begin_73 : decode cX2_begin 73 = .ok (.getfield 63, 3) := dk_180 0 63 (dk_at dksX2_begin_3 3 rfl rfl)
theorem dX2_begin_76 : decode cX2_begin 76 = .ok (.iload_n 2, 1) := dk_28 (dk_at dksX2_begin_3 6 rfl rfl)
theorem dX2_begin_77 : decode cX2_begin 77 = .ok (.iconst 0, 1) := dk_3 (dk_at dksX2_begin_3 7 rfl rfl)
theorem dX2_begin_78 : decode cX2_begin 78 = .ok (.iastore, 1) := dk_79 (dk_at dksX2_begin_3 8 rfl rfl)
theorem dX2_begin_79 : decode cX2_begin 79 = .ok (.iinc 2 1, 3) := dk_132 2 1 (dk_at dksX2_begin_3 9 rfl rfl)
theorem dX2_begin_82 : decode cX2_begin 82 = .ok (.goto (-30), 3) := dk_167 255 226 (dk_at dksX2_begin_3 12 rfl rfl)
theorem dX2_begin_85 : decode cX2_begin 85 = .ok (.iconst 0, 1) := dk_3 (dk_at dksX2_begin_3 15 rfl rfl)
theorem dX2_begin_86 : decode cX2_begin 86 = .ok (.istore_n 2, 1) := dk_61 (dk_at dksX2_begin_3 16 rfl rfl)
theorem dX2_begin_87 : decode cX2_begin 87 = .ok (.iload_n 2, 1) := dk_28 (dk_at dksX2_begin_3 17 rfl rfl)
theorem dX2_begin_88 : decode cX2_begin 88 = .ok (.bipush 36, 2) := dk_16 36 (dk_at dksX2_begin_3 18 rfl rfl)
theorem dX2_begin_90 : decode cX2_begin 90 = .ok (.if_icmp .ge 16, 3) := dk_162 0 16 (dk_at dksX2_begin_3 20 rfl rfl)
theorem dX2_begin_93 : decode cX2_begin 93 = .ok (.aload_n 0, 1) := dk_42 (dk_at dksX2_begin_3 23 rfl rfl)
theorem dX2_begin_94 : decode cX2_begin 94 = .ok (.getfield 48, 3) := dk_180 0 48 (dk_at dksX2_begin_4 0 rfl rfl)
theorem dX2_begin_97 : decode cX2_begin 97 = .ok (.iload_n 2, 1) := dk_28 (dk_at dksX2_begin_4 3 rfl rfl)
theorem dX2_begin_98 : decode cX2_begin 98 = .ok (.iconst (-1), 1) := dk_2 (dk_at dksX2_begin_4 4 rfl rfl)
theorem dX2_begin_99 : decode cX2_begin 99 = .ok (.iastore, 1) := dk_79 (dk_at dksX2_begin_4 5 rfl rfl)
theorem dX2_begin_100 : decode cX2_begin 100 = .ok (.iinc 2 1, 3) := dk_132 2 1 (dk_at dksX2_begin_4 6 rfl rfl)
theorem dX2_begin_103 : decode cX2_begin 103 = .ok (.goto (-16), 3) := dk_167 255 240 (dk_at dksX2_begin_4 9 rfl rfl)
theorem dX2_begin_106 : decode cX2_begin 106 = .ok (.iconst 0, 1) := dk_3 (dk_at dksX2_begin_4 12 rfl rfl)
theorem dX2_begin_107 : decode cX2_begin 107 = .ok (.istore_n 2, 1) := dk_61 (dk_at dksX2_begin_4 13 rfl rfl)
theorem dX2_begin_108 : decode cX2_begin 108 = .ok (.iload_n 2, 1) := dk_28 (dk_at dksX2_begin_4 14 rfl rfl)
theorem dX2_begin_109 : decode cX2_begin 109 = .ok (.bipush 64, 2) := dk_16 64 (dk_at dksX2_begin_4 15 rfl rfl)
theorem dX2_begin_111 : decode cX2_begin 111 = .ok (.if_icmp .ge 16, 3) := dk_162 0 16 (dk_at dksX2_begin_4 17 rfl rfl)
theorem dX2_begin_114 : decode cX2_begin 114 = .ok (.aload_n 0, 1) := dk_42 (dk_at dksX2_begin_4 20 rfl rfl)
theorem dX2_begin_115 : decode cX2_begin 115 = .ok (.getfield 129, 3) := dk_180 0 129 (dk_at dksX2_begin_4 21 rfl rfl)
theorem dX2_begin_118 : decode cX2_begin 118 = .ok (.iload_n 2, 1) := dk_28 (dk_at dksX2_begin_5 0 rfl rfl)
theorem dX2_begin_119 : decode cX2_begin 119 = .ok (.iconst (-1), 1) := dk_2 (dk_at dksX2_begin_5 1 rfl rfl)
theorem dX2_begin_120 : decode cX2_begin 120 = .ok (.iastore, 1) := dk_79 (dk_at dksX2_begin_5 2 rfl rfl)
theorem dX2_begin_121 : decode cX2_begin 121 = .ok (.iinc 2 1, 3) := dk_132 2 1 (dk_at dksX2_begin_5 3 rfl rfl)
theorem dX2_begin_124 : decode cX2_begin 124 = .ok (.goto (-16), 3) := dk_167 255 240 (dk_at dksX2_begin_5 6 rfl rfl)
theorem dX2_begin_127 : decode cX2_begin 127 = .ok (.return_, 1) := dk_177 (dk_at dksX2_begin_5 9 rfl rfl)
abbrev cX2_play : ByteArray := prog_25_method_92_code
def yX2_play : MethodName := ⟨RX2, "play", "(I)I"⟩
def dkwX2_play_2 : List UInt8 := [42, 182, 2, 34, 184, 0, 243, 181, 2, 28, 167, 255, 207, 28, 172]
abbrev dktX2_play_2 : List UInt8 := dkwX2_play_2 ++ []
def dkwX2_play_1 : List UInt8 := [182, 2, 25, 42, 28, 5, 182, 2, 25, 28, 182, 2, 31, 153, 0, 24, 132, 2, 1, 42, 42, 180, 2, 28]
abbrev dktX2_play_1 : List UInt8 := dkwX2_play_1 ++ dktX2_play_2
def dkwX2_play_0 : List UInt8 := [42, 3, 181, 2, 28, 3, 61, 28, 27, 162, 0, 50, 42, 42, 28, 3, 182, 2, 25, 42, 28, 4]
abbrev dktX2_play_0 : List UInt8 := dkwX2_play_0 ++ dktX2_play_1
theorem dksX2_play_0 : cX2_play.data.toList.drop 0 = dktX2_play_0 := by decide +kernel
theorem dksX2_play_1 : cX2_play.data.toList.drop 22 = dktX2_play_1 := dk_seg dksX2_play_0 22 rfl rfl
theorem dksX2_play_2 : cX2_play.data.toList.drop 46 = dktX2_play_2 := dk_seg dksX2_play_1 24 rfl rfl
theorem dX2_play_0 : decode cX2_play 0 = .ok (.aload_n 0, 1) := dk_42 (dk_at dksX2_play_0 0 rfl rfl)
theorem dX2_play_1 : decode cX2_play 1 = .ok (.iconst 0, 1) := dk_3 (dk_at dksX2_play_0 1 rfl rfl)
theorem dX2_play_2 : decode cX2_play 2 = .ok (.putfield 540, 3) := dk_181 2 28 (dk_at dksX2_play_0 2 rfl rfl)
theorem dX2_play_5 : decode cX2_play 5 = .ok (.iconst 0, 1) := dk_3 (dk_at dksX2_play_0 5 rfl rfl)
theorem dX2_play_6 : decode cX2_play 6 = .ok (.istore_n 2, 1) := dk_61 (dk_at dksX2_play_0 6 rfl rfl)
theorem dX2_play_7 : decode cX2_play 7 = .ok (.iload_n 2, 1) := dk_28 (dk_at dksX2_play_0 7 rfl rfl)
theorem dX2_play_8 : decode cX2_play 8 = .ok (.iload_n 1, 1) := dk_27 (dk_at dksX2_play_0 8 rfl rfl)
theorem dX2_play_9 : decode cX2_play 9 = .ok (.if_icmp .ge 50, 3) := dk_162 0 50 (dk_at dksX2_play_0 9 rfl rfl)
theorem dX2_play_12 : decode cX2_play 12 = .ok (.aload_n 0, 1) := dk_42 (dk_at dksX2_play_0 12 rfl rfl)
theorem dX2_play_13 : decode cX2_play 13 = .ok (.aload_n 0, 1) := dk_42 (dk_at dksX2_play_0 13 rfl rfl)
theorem dX2_play_14 : decode cX2_play 14 = .ok (.iload_n 2, 1) := dk_28 (dk_at dksX2_play_0 14 rfl rfl)
theorem dX2_play_15 : decode cX2_play 15 = .ok (.iconst 0, 1) := dk_3 (dk_at dksX2_play_0 15 rfl rfl)
theorem dX2_play_16 : decode cX2_play 16 = .ok (.invokevirtual 537, 3) := dk_182 2 25 (dk_at dksX2_play_0 16 rfl rfl)
theorem dX2_play_19 : decode cX2_play 19 = .ok (.aload_n 0, 1) := dk_42 (dk_at dksX2_play_0 19 rfl rfl)
theorem dX2_play_20 : decode cX2_play 20 = .ok (.iload_n 2, 1) := dk_28 (dk_at dksX2_play_0 20 rfl rfl)
theorem dX2_play_21 : decode cX2_play 21 = .ok (.iconst 1, 1) := dk_4 (dk_at dksX2_play_0 21 rfl rfl)
theorem dX2_play_22 : decode cX2_play 22 = .ok (.invokevirtual 537, 3) := dk_182 2 25 (dk_at dksX2_play_1 0 rfl rfl)
theorem dX2_play_25 : decode cX2_play 25 = .ok (.aload_n 0, 1) := dk_42 (dk_at dksX2_play_1 3 rfl rfl)
theorem dX2_play_26 : decode cX2_play 26 = .ok (.iload_n 2, 1) := dk_28 (dk_at dksX2_play_1 4 rfl rfl)
theorem dX2_play_27 : decode cX2_play 27 = .ok (.iconst 2, 1) := dk_5 (dk_at dksX2_play_1 5 rfl rfl)
theorem dX2_play_28 : decode cX2_play 28 = .ok (.invokevirtual 537, 3) := dk_182 2 25 (dk_at dksX2_play_1 6 rfl rfl)
theorem dX2_play_31 : decode cX2_play 31 = .ok (.iload_n 2, 1) := dk_28 (dk_at dksX2_play_1 9 rfl rfl)
theorem dX2_play_32 : decode cX2_play 32 = .ok (.invokevirtual 543, 3) := dk_182 2 31 (dk_at dksX2_play_1 10 rfl rfl)
theorem dX2_play_35 : decode cX2_play 35 = .ok (.ifCond .eq 24, 3) := dk_153 0 24 (dk_at dksX2_play_1 13 rfl rfl)
theorem dX2_play_38 : decode cX2_play 38 = .ok (.iinc 2 1, 3) := dk_132 2 1 (dk_at dksX2_play_1 16 rfl rfl)
theorem dX2_play_41 : decode cX2_play 41 = .ok (.aload_n 0, 1) := dk_42 (dk_at dksX2_play_1 19 rfl rfl)
theorem dX2_play_42 : decode cX2_play 42 = .ok (.aload_n 0, 1) := dk_42 (dk_at dksX2_play_1 20 rfl rfl)
theorem dX2_play_43 : decode cX2_play 43 = .ok (.getfield 540, 3) := dk_180 2 28 (dk_at dksX2_play_1 21 rfl rfl)
theorem dX2_play_46 : decode cX2_play 46 = .ok (.aload_n 0, 1) := dk_42 (dk_at dksX2_play_2 0 rfl rfl)
theorem dX2_play_47 : decode cX2_play 47 = .ok (.invokevirtual 546, 3) := dk_182 2 34 (dk_at dksX2_play_2 1 rfl rfl)
theorem dX2_play_50 : decode cX2_play 50 = .ok (.invokestatic 243, 3) := dk_184 0 243 (dk_at dksX2_play_2 4 rfl rfl)
theorem dX2_play_53 : decode cX2_play 53 = .ok (.putfield 540, 3) := dk_181 2 28 (dk_at dksX2_play_2 7 rfl rfl)
theorem dX2_play_56 : decode cX2_play 56 = .ok (.goto (-49), 3) := dk_167 255 207 (dk_at dksX2_play_2 10 rfl rfl)
theorem dX2_play_59 : decode cX2_play 59 = .ok (.iload_n 2, 1) := dk_28 (dk_at dksX2_play_2 13 rfl rfl)
theorem dX2_play_60 : decode cX2_play 60 = .ok (.ireturn, 1) := dk_172 (dk_at dksX2_play_2 14 rfl rfl)
abbrev cX2_does : ByteArray := prog_25_method_86_code
def yX2_does : MethodName := ⟨RX2, "does", "(IIII)Z"⟩
def dkwX2_does_3 : List UInt8 := [4, 167, 0, 4, 3, 182, 2, 12, 172]
abbrev dktX2_does_3 : List UInt8 := dkwX2_does_3 ++ []
def dkwX2_does_2 : List UInt8 := [42, 28, 29, 27, 21, 4, 182, 2, 6, 172, 42, 28, 182, 2, 9, 172, 42, 28, 29, 27, 6, 160, 0, 7]
abbrev dktX2_does_2 : List UInt8 := dkwX2_does_2 ++ dktX2_does_3
def dkwX2_does_1 : List UInt8 := [170, 0, 0, 0, 0, 0, 43, 0, 0, 0, 0, 0, 0, 0, 2, 0, 0, 0, 27, 0, 0, 0, 27, 0, 0, 0, 37]
abbrev dktX2_does_1 : List UInt8 := dkwX2_does_1 ++ dktX2_does_2
def dkwX2_does_0 : List UInt8 := [27]
abbrev dktX2_does_0 : List UInt8 := dkwX2_does_0 ++ dktX2_does_1
theorem dksX2_does_0 : cX2_does.data.toList.drop 0 = dktX2_does_0 := by decide +kernel
theorem dksX2_does_1 : cX2_does.data.toList.drop 1 = dktX2_does_1 := dk_seg dksX2_does_0 1 rfl rfl
theorem dksX2_does_2 : cX2_does.data.toList.drop 28 = dktX2_does_2 := dk_seg dksX2_does_1 27 rfl rfl
theorem dksX2_does_3 : cX2_does.data.toList.drop 52 = dktX2_does_3 := dk_seg dksX2_does_2 24 rfl rfl
theorem dX2_does_0 : decode cX2_does 0 = .ok (.iload_n 1, 1) := dk_27 (dk_at dksX2_does_0 0 rfl rfl)
theorem dX2_does_1 : decode cX2_does 1 = .ok (.tableswitch 43 0 2 #[27, 27, 37], 27) := by decide +kernel
theorem dX2_does_28 : decode cX2_does 28 = .ok (.aload_n 0, 1) := dk_42 (dk_at dksX2_does_2 0 rfl rfl)
theorem dX2_does_29 : decode cX2_does 29 = .ok (.iload_n 2, 1) := dk_28 (dk_at dksX2_does_2 1 rfl rfl)
theorem dX2_does_30 : decode cX2_does 30 = .ok (.iload_n 3, 1) := dk_29 (dk_at dksX2_does_2 2 rfl rfl)
theorem dX2_does_31 : decode cX2_does 31 = .ok (.iload_n 1, 1) := dk_27 (dk_at dksX2_does_2 3 rfl rfl)
theorem dX2_does_32 : decode cX2_does 32 = .ok (.iload 4, 2) := dk_21 4 (dk_at dksX2_does_2 4 rfl rfl)
theorem dX2_does_34 : decode cX2_does 34 = .ok (.invokevirtual 518, 3) := dk_182 2 6 (dk_at dksX2_does_2 6 rfl rfl)
theorem dX2_does_37 : decode cX2_does 37 = .ok (.ireturn, 1) := dk_172 (dk_at dksX2_does_2 9 rfl rfl)
theorem dX2_does_38 : decode cX2_does 38 = .ok (.aload_n 0, 1) := dk_42 (dk_at dksX2_does_2 10 rfl rfl)
theorem dX2_does_39 : decode cX2_does 39 = .ok (.iload_n 2, 1) := dk_28 (dk_at dksX2_does_2 11 rfl rfl)
theorem dX2_does_40 : decode cX2_does 40 = .ok (.invokevirtual 521, 3) := dk_182 2 9 (dk_at dksX2_does_2 12 rfl rfl)
theorem dX2_does_43 : decode cX2_does 43 = .ok (.ireturn, 1) := dk_172 (dk_at dksX2_does_2 15 rfl rfl)
theorem dX2_does_44 : decode cX2_does 44 = .ok (.aload_n 0, 1) := dk_42 (dk_at dksX2_does_2 16 rfl rfl)
theorem dX2_does_45 : decode cX2_does 45 = .ok (.iload_n 2, 1) := dk_28 (dk_at dksX2_does_2 17 rfl rfl)
theorem dX2_does_46 : decode cX2_does 46 = .ok (.iload_n 3, 1) := dk_29 (dk_at dksX2_does_2 18 rfl rfl)
theorem dX2_does_47 : decode cX2_does 47 = .ok (.iload_n 1, 1) := dk_27 (dk_at dksX2_does_2 19 rfl rfl)
theorem dX2_does_48 : decode cX2_does 48 = .ok (.iconst 3, 1) := dk_6 (dk_at dksX2_does_2 20 rfl rfl)
theorem dX2_does_49 : decode cX2_does 49 = .ok (.if_icmp .ne 7, 3) := dk_160 0 7 (dk_at dksX2_does_2 21 rfl rfl)
theorem dX2_does_52 : decode cX2_does 52 = .ok (.iconst 1, 1) := dk_4 (dk_at dksX2_does_3 0 rfl rfl)
theorem dX2_does_53 : decode cX2_does 53 = .ok (.goto 4, 3) := dk_167 0 4 (dk_at dksX2_does_3 1 rfl rfl)
theorem dX2_does_56 : decode cX2_does 56 = .ok (.iconst 0, 1) := dk_3 (dk_at dksX2_does_3 4 rfl rfl)
theorem dX2_does_57 : decode cX2_does 57 = .ok (.invokevirtual 524, 3) := dk_182 2 12 (dk_at dksX2_does_3 5 rfl rfl)
theorem dX2_does_60 : decode cX2_does 60 = .ok (.ireturn, 1) := dk_172 (dk_at dksX2_does_3 8 rfl rfl)
abbrev cX2_asks : ByteArray := prog_25_method_84_code
def yX2_asks : MethodName := ⟨RX2, "asks", "(IIII)Z"⟩
def dkwX2_asks_1 : List UInt8 := [42, 180, 1, 128, 79, 42, 27, 16, 100, 21, 4, 96, 28, 29, 21, 4, 182, 1, 241, 4, 172]
abbrev dktX2_asks_1 : List UInt8 := dkwX2_asks_1 ++ []
def dkwX2_asks_0 : List UInt8 := [42, 27, 182, 1, 119, 154, 0, 5, 3, 172, 42, 180, 0, 129, 21, 4, 3, 79, 42, 180, 0, 135, 21, 4]
abbrev dktX2_asks_0 : List UInt8 := dkwX2_asks_0 ++ dktX2_asks_1
theorem dksX2_asks_0 : cX2_asks.data.toList.drop 0 = dktX2_asks_0 := by decide +kernel
theorem dksX2_asks_1 : cX2_asks.data.toList.drop 24 = dktX2_asks_1 := dk_seg dksX2_asks_0 24 rfl rfl
theorem dX2_asks_0 : decode cX2_asks 0 = .ok (.aload_n 0, 1) := dk_42 (dk_at dksX2_asks_0 0 rfl rfl)
theorem dX2_asks_1 : decode cX2_asks 1 = .ok (.iload_n 1, 1) := dk_27 (dk_at dksX2_asks_0 1 rfl rfl)
theorem dX2_asks_2 : decode cX2_asks 2 = .ok (.invokevirtual 375, 3) := dk_182 1 119 (dk_at dksX2_asks_0 2 rfl rfl)
theorem dX2_asks_5 : decode cX2_asks 5 = .ok (.ifCond .ne 5, 3) := dk_154 0 5 (dk_at dksX2_asks_0 5 rfl rfl)
theorem dX2_asks_8 : decode cX2_asks 8 = .ok (.iconst 0, 1) := dk_3 (dk_at dksX2_asks_0 8 rfl rfl)
theorem dX2_asks_9 : decode cX2_asks 9 = .ok (.ireturn, 1) := dk_172 (dk_at dksX2_asks_0 9 rfl rfl)
theorem dX2_asks_10 : decode cX2_asks 10 = .ok (.aload_n 0, 1) := dk_42 (dk_at dksX2_asks_0 10 rfl rfl)
theorem dX2_asks_11 : decode cX2_asks 11 = .ok (.getfield 129, 3) := dk_180 0 129 (dk_at dksX2_asks_0 11 rfl rfl)
theorem dX2_asks_14 : decode cX2_asks 14 = .ok (.iload 4, 2) := dk_21 4 (dk_at dksX2_asks_0 14 rfl rfl)
theorem dX2_asks_16 : decode cX2_asks 16 = .ok (.iconst 0, 1) := dk_3 (dk_at dksX2_asks_0 16 rfl rfl)
theorem dX2_asks_17 : decode cX2_asks 17 = .ok (.iastore, 1) := dk_79 (dk_at dksX2_asks_0 17 rfl rfl)
theorem dX2_asks_18 : decode cX2_asks 18 = .ok (.aload_n 0, 1) := dk_42 (dk_at dksX2_asks_0 18 rfl rfl)
theorem dX2_asks_19 : decode cX2_asks 19 = .ok (.getfield 135, 3) := dk_180 0 135 (dk_at dksX2_asks_0 19 rfl rfl)
theorem dX2_asks_22 : decode cX2_asks 22 = .ok (.iload 4, 2) := dk_21 4 (dk_at dksX2_asks_0 22 rfl rfl)
theorem dX2_asks_24 : decode cX2_asks 24 = .ok (.aload_n 0, 1) := dk_42 (dk_at dksX2_asks_1 0 rfl rfl)
theorem dX2_asks_25 : decode cX2_asks 25 = .ok (.getfield 384, 3) := dk_180 1 128 (dk_at dksX2_asks_1 1 rfl rfl)
theorem dX2_asks_28 : decode cX2_asks 28 = .ok (.iastore, 1) := dk_79 (dk_at dksX2_asks_1 4 rfl rfl)
theorem dX2_asks_29 : decode cX2_asks 29 = .ok (.aload_n 0, 1) := dk_42 (dk_at dksX2_asks_1 5 rfl rfl)
theorem dX2_asks_30 : decode cX2_asks 30 = .ok (.iload_n 1, 1) := dk_27 (dk_at dksX2_asks_1 6 rfl rfl)
theorem dX2_asks_31 : decode cX2_asks 31 = .ok (.bipush 100, 2) := dk_16 100 (dk_at dksX2_asks_1 7 rfl rfl)
theorem dX2_asks_33 : decode cX2_asks 33 = .ok (.iload 4, 2) := dk_21 4 (dk_at dksX2_asks_1 9 rfl rfl)
theorem dX2_asks_35 : decode cX2_asks 35 = .ok (.iadd, 1) := dk_96 (dk_at dksX2_asks_1 11 rfl rfl)
theorem dX2_asks_36 : decode cX2_asks 36 = .ok (.iload_n 2, 1) := dk_28 (dk_at dksX2_asks_1 12 rfl rfl)
theorem dX2_asks_37 : decode cX2_asks 37 = .ok (.iload_n 3, 1) := dk_29 (dk_at dksX2_asks_1 13 rfl rfl)
theorem dX2_asks_38 : decode cX2_asks 38 = .ok (.iload 4, 2) := dk_21 4 (dk_at dksX2_asks_1 14 rfl rfl)
theorem dX2_asks_40 : decode cX2_asks 40 = .ok (.invokevirtual 497, 3) := dk_182 1 241 (dk_at dksX2_asks_1 16 rfl rfl)
theorem dX2_asks_43 : decode cX2_asks 43 = .ok (.iconst 1, 1) := dk_4 (dk_at dksX2_asks_1 19 rfl rfl)
theorem dX2_asks_44 : decode cX2_asks 44 = .ok (.ireturn, 1) := dk_172 (dk_at dksX2_asks_1 20 rfl rfl)
abbrev cX2_interest : ByteArray := prog_25_method_74_code
def yX2_interest : MethodName := ⟨RX2, "interest", "(IIIII)V"⟩
def dkwX2_interest_7 : List UInt8 := [21, 5, 182, 1, 197, 167, 0, 14, 42, 27, 28, 29, 21, 4, 21, 5, 182, 1, 231, 177]
abbrev dktX2_interest_7 : List UInt8 := dkwX2_interest_7 ++ []
def dkwX2_interest_6 : List UInt8 := [167, 0, 42, 21, 6, 2, 159, 0, 25, 42, 89, 180, 1, 140, 4, 96, 181, 1, 140, 42, 21, 6, 28]
abbrev dktX2_interest_6 : List UInt8 := dkwX2_interest_6 ++ dktX2_interest_7
def dkwX2_interest_5 : List UInt8 := [42, 27, 29, 182, 1, 225, 2, 159, 0, 19, 42, 27, 42, 27, 29, 182, 1, 225, 28, 29, 182, 1, 228]
abbrev dktX2_interest_5 : List UInt8 := dkwX2_interest_5 ++ dktX2_interest_6
def dkwX2_interest_4 : List UInt8 := [104, 21, 7, 96, 46, 42, 180, 1, 128, 161, 0, 15, 42, 27, 21, 7, 28, 29, 182, 1, 222, 167, 0, 68]
abbrev dktX2_interest_4 : List UInt8 := dkwX2_interest_4 ++ dktX2_interest_5
def dkwX2_interest_3 : List UInt8 := [182, 1, 206, 167, 0, 110, 21, 7, 2, 159, 0, 39, 21, 4, 153, 0, 22, 42, 180, 0, 57, 16, 6, 27]
abbrev dktX2_interest_3 : List UInt8 := dkwX2_interest_3 ++ dktX2_interest_4
def dkwX2_interest_2 : List UInt8 := [184, 1, 219, 153, 0, 26, 42, 89, 180, 1, 143, 4, 96, 181, 1, 143, 42, 27, 28, 29, 21, 4, 5]
abbrev dktX2_interest_2 : List UInt8 := dkwX2_interest_2 ++ dktX2_interest_3
def dkwX2_interest_1 : List UInt8 := [21, 5, 184, 1, 219, 154, 0, 24, 21, 6, 2, 159, 0, 41, 42, 180, 0, 78, 21, 6, 47, 21, 5]
abbrev dktX2_interest_1 : List UInt8 := dkwX2_interest_1 ++ dktX2_interest_2
def dkwX2_interest_0 : List UInt8 := [42, 27, 29, 21, 4, 182, 1, 216, 54, 6, 42, 27, 29, 182, 1, 180, 54, 7, 42, 180, 0, 44, 27, 47]
abbrev dktX2_interest_0 : List UInt8 := dkwX2_interest_0 ++ dktX2_interest_1
theorem dksX2_interest_0 : cX2_interest.data.toList.drop 0 = dktX2_interest_0 := by decide +kernel
theorem dksX2_interest_1 : cX2_interest.data.toList.drop 24 = dktX2_interest_1 := dk_seg dksX2_interest_0 24 rfl rfl
theorem dksX2_interest_2 : cX2_interest.data.toList.drop 47 = dktX2_interest_2 := dk_seg dksX2_interest_1 23 rfl rfl
theorem dksX2_interest_3 : cX2_interest.data.toList.drop 70 = dktX2_interest_3 := dk_seg dksX2_interest_2 23 rfl rfl
theorem dksX2_interest_4 : cX2_interest.data.toList.drop 94 = dktX2_interest_4 := dk_seg dksX2_interest_3 24 rfl rfl
theorem dksX2_interest_5 : cX2_interest.data.toList.drop 118 = dktX2_interest_5 := dk_seg dksX2_interest_4 24 rfl rfl
theorem dksX2_interest_6 : cX2_interest.data.toList.drop 141 = dktX2_interest_6 := dk_seg dksX2_interest_5 23 rfl rfl
theorem dksX2_interest_7 : cX2_interest.data.toList.drop 164 = dktX2_interest_7 := dk_seg dksX2_interest_6 23 rfl rfl
theorem dX2_interest_0 : decode cX2_interest 0 = .ok (.aload_n 0, 1) := dk_42 (dk_at dksX2_interest_0 0 rfl rfl)
theorem dX2_interest_1 : decode cX2_interest 1 = .ok (.iload_n 1, 1) := dk_27 (dk_at dksX2_interest_0 1 rfl rfl)
theorem dX2_interest_2 : decode cX2_interest 2 = .ok (.iload_n 3, 1) := dk_29 (dk_at dksX2_interest_0 2 rfl rfl)
theorem dX2_interest_3 : decode cX2_interest 3 = .ok (.iload 4, 2) := dk_21 4 (dk_at dksX2_interest_0 3 rfl rfl)
theorem dX2_interest_5 : decode cX2_interest 5 = .ok (.invokevirtual 472, 3) := dk_182 1 216 (dk_at dksX2_interest_0 5 rfl rfl)
theorem dX2_interest_8 : decode cX2_interest 8 = .ok (.istore 6, 2) := dk_54 6 (dk_at dksX2_interest_0 8 rfl rfl)
theorem dX2_interest_10 : decode cX2_interest 10 = .ok (.aload_n 0, 1) := dk_42 (dk_at dksX2_interest_0 10 rfl rfl)
theorem dX2_interest_11 : decode cX2_interest 11 = .ok (.iload_n 1, 1) := dk_27 (dk_at dksX2_interest_0 11 rfl rfl)
theorem dX2_interest_12 : decode cX2_interest 12 = .ok (.iload_n 3, 1) := dk_29 (dk_at dksX2_interest_0 12 rfl rfl)
theorem dX2_interest_13 : decode cX2_interest 13 = .ok (.invokevirtual 436, 3) := dk_182 1 180 (dk_at dksX2_interest_0 13 rfl rfl)
theorem dX2_interest_16 : decode cX2_interest 16 = .ok (.istore 7, 2) := dk_54 7 (dk_at dksX2_interest_0 16 rfl rfl)
theorem dX2_interest_18 : decode cX2_interest 18 = .ok (.aload_n 0, 1) := dk_42 (dk_at dksX2_interest_0 18 rfl rfl)
theorem dX2_interest_19 : decode cX2_interest 19 = .ok (.getfield 44, 3) := dk_180 0 44 (dk_at dksX2_interest_0 19 rfl rfl)
theorem dX2_interest_22 : decode cX2_interest 22 = .ok (.iload_n 1, 1) := dk_27 (dk_at dksX2_interest_0 22 rfl rfl)
theorem dX2_interest_23 : decode cX2_interest 23 = .ok (.laload, 1) := dk_47 (dk_at dksX2_interest_0 23 rfl rfl)
theorem dX2_interest_24 : decode cX2_interest 24 = .ok (.iload 5, 2) := dk_21 5 (dk_at dksX2_interest_1 0 rfl rfl)
theorem dX2_interest_26 : decode cX2_interest 26 = .ok (.invokestatic 475, 3) := dk_184 1 219 (dk_at dksX2_interest_1 2 rfl rfl)
theorem dX2_interest_29 : decode cX2_interest 29 = .ok (.ifCond .ne 24, 3) := dk_154 0 24 (dk_at dksX2_interest_1 5 rfl rfl)
theorem dX2_interest_32 : decode cX2_interest 32 = .ok (.iload 6, 2) := dk_21 6 (dk_at dksX2_interest_1 8 rfl rfl)
theorem dX2_interest_34 : decode cX2_interest 34 = .ok (.iconst (-1), 1) := dk_2 (dk_at dksX2_interest_1 10 rfl rfl)
theorem dX2_interest_35 : decode cX2_interest 35 = .ok (.if_icmp .eq 41, 3) := dk_159 0 41 (dk_at dksX2_interest_1 11 rfl rfl)
theorem dX2_interest_38 : decode cX2_interest 38 = .ok (.aload_n 0, 1) := dk_42 (dk_at dksX2_interest_1 14 rfl rfl)
theorem dX2_interest_39 : decode cX2_interest 39 = .ok (.getfield 78, 3) := dk_180 0 78 (dk_at dksX2_interest_1 15 rfl rfl)
theorem dX2_interest_42 : decode cX2_interest 42 = .ok (.iload 6, 2) := dk_21 6 (dk_at dksX2_interest_1 18 rfl rfl)
theorem dX2_interest_44 : decode cX2_interest 44 = .ok (.laload, 1) := dk_47 (dk_at dksX2_interest_1 20 rfl rfl)
theorem dX2_interest_45 : decode cX2_interest 45 = .ok (.iload 5, 2) := dk_21 5 (dk_at dksX2_interest_1 21 rfl rfl)
theorem dX2_interest_47 : decode cX2_interest 47 = .ok (.invokestatic 475, 3) := dk_184 1 219 (dk_at dksX2_interest_2 0 rfl rfl)
theorem dX2_interest_50 : decode cX2_interest 50 = .ok (.ifCond .eq 26, 3) := dk_153 0 26 (dk_at dksX2_interest_2 3 rfl rfl)
theorem dX2_interest_53 : decode cX2_interest 53 = .ok (.aload_n 0, 1) := dk_42 (dk_at dksX2_interest_2 6 rfl rfl)
theorem dX2_interest_54 : decode cX2_interest 54 = .ok (.dup, 1) := dk_89 (dk_at dksX2_interest_2 7 rfl rfl)
theorem dX2_interest_55 : decode cX2_interest 55 = .ok (.getfield 399, 3) := dk_180 1 143 (dk_at dksX2_interest_2 8 rfl rfl)
theorem dX2_interest_58 : decode cX2_interest 58 = .ok (.iconst 1, 1) := dk_4 (dk_at dksX2_interest_2 11 rfl rfl)
theorem dX2_interest_59 : decode cX2_interest 59 = .ok (.iadd, 1) := dk_96 (dk_at dksX2_interest_2 12 rfl rfl)
theorem dX2_interest_60 : decode cX2_interest 60 = .ok (.putfield 399, 3) := dk_181 1 143 (dk_at dksX2_interest_2 13 rfl rfl)
theorem dX2_interest_63 : decode cX2_interest 63 = .ok (.aload_n 0, 1) := dk_42 (dk_at dksX2_interest_2 16 rfl rfl)
theorem dX2_interest_64 : decode cX2_interest 64 = .ok (.iload_n 1, 1) := dk_27 (dk_at dksX2_interest_2 17 rfl rfl)
theorem dX2_interest_65 : decode cX2_interest 65 = .ok (.iload_n 2, 1) := dk_28 (dk_at dksX2_interest_2 18 rfl rfl)
theorem dX2_interest_66 : decode cX2_interest 66 = .ok (.iload_n 3, 1) := dk_29 (dk_at dksX2_interest_2 19 rfl rfl)
theorem dX2_interest_67 : decode cX2_interest 67 = .ok (.iload 4, 2) := dk_21 4 (dk_at dksX2_interest_2 20 rfl rfl)
theorem dX2_interest_69 : decode cX2_interest 69 = .ok (.iconst 2, 1) := dk_5 (dk_at dksX2_interest_2 22 rfl rfl)
theorem dX2_interest_70 : decode cX2_interest 70 = .ok (.invokevirtual 462, 3) := dk_182 1 206 (dk_at dksX2_interest_3 0 rfl rfl)
theorem dX2_interest_73 : decode cX2_interest 73 = .ok (.goto 110, 3) := dk_167 0 110 (dk_at dksX2_interest_3 3 rfl rfl)
theorem dX2_interest_76 : decode cX2_interest 76 = .ok (.iload 7, 2) := dk_21 7 (dk_at dksX2_interest_3 6 rfl rfl)
theorem dX2_interest_78 : decode cX2_interest 78 = .ok (.iconst (-1), 1) := dk_2 (dk_at dksX2_interest_3 8 rfl rfl)
theorem dX2_interest_79 : decode cX2_interest 79 = .ok (.if_icmp .eq 39, 3) := dk_159 0 39 (dk_at dksX2_interest_3 9 rfl rfl)
theorem dX2_interest_82 : decode cX2_interest 82 = .ok (.iload 4, 2) := dk_21 4 (dk_at dksX2_interest_3 12 rfl rfl)
theorem dX2_interest_84 : decode cX2_interest 84 = .ok (.ifCond .eq 22, 3) := dk_153 0 22 (dk_at dksX2_interest_3 14 rfl rfl)
theorem dX2_interest_87 : decode cX2_interest 87 = .ok (.aload_n 0, 1) := dk_42 (dk_at dksX2_interest_3 17 rfl rfl)
theorem dX2_interest_88 : decode cX2_interest 88 = .ok (.getfield 57, 3) := dk_180 0 57 (dk_at dksX2_interest_3 18 rfl rfl)
theorem dX2_interest_91 : decode cX2_interest 91 = .ok (.bipush 6, 2) := dk_16 6 (dk_at dksX2_interest_3 21 rfl rfl)
theorem dX2_interest_93 : decode cX2_interest 93 = .ok (.iload_n 1, 1) := dk_27 (dk_at dksX2_interest_3 23 rfl rfl)
theorem dX2_interest_94 : decode cX2_interest 94 = .ok (.imul, 1) := dk_104 (dk_at dksX2_interest_4 0 rfl rfl)
theorem dX2_interest_95 : decode cX2_interest 95 = .ok (.iload 7, 2) := dk_21 7 (dk_at dksX2_interest_4 1 rfl rfl)
theorem dX2_interest_97 : decode cX2_interest 97 = .ok (.iadd, 1) := dk_96 (dk_at dksX2_interest_4 3 rfl rfl)
theorem dX2_interest_98 : decode cX2_interest 98 = .ok (.iaload, 1) := dk_46 (dk_at dksX2_interest_4 4 rfl rfl)
theorem dX2_interest_99 : decode cX2_interest 99 = .ok (.aload_n 0, 1) := dk_42 (dk_at dksX2_interest_4 5 rfl rfl)
theorem dX2_interest_100 : decode cX2_interest 100 = .ok (.getfield 384, 3) := dk_180 1 128 (dk_at dksX2_interest_4 6 rfl rfl)
theorem dX2_interest_103 : decode cX2_interest 103 = .ok (.if_icmp .lt 15, 3) := dk_161 0 15 (dk_at dksX2_interest_4 9 rfl rfl)
theorem dX2_interest_106 : decode cX2_interest 106 = .ok (.aload_n 0, 1) := dk_42 (dk_at dksX2_interest_4 12 rfl rfl)
theorem dX2_interest_107 : decode cX2_interest 107 = .ok (.iload_n 1, 1) := dk_27 (dk_at dksX2_interest_4 13 rfl rfl)
theorem dX2_interest_108 : decode cX2_interest 108 = .ok (.iload 7, 2) := dk_21 7 (dk_at dksX2_interest_4 14 rfl rfl)
theorem dX2_interest_110 : decode cX2_interest 110 = .ok (.iload_n 2, 1) := dk_28 (dk_at dksX2_interest_4 16 rfl rfl)
theorem dX2_interest_111 : decode cX2_interest 111 = .ok (.iload_n 3, 1) := dk_29 (dk_at dksX2_interest_4 17 rfl rfl)
theorem dX2_interest_112 : decode cX2_interest 112 = .ok (.invokevirtual 478, 3) := dk_182 1 222 (dk_at dksX2_interest_4 18 rfl rfl)
theorem dX2_interest_115 : decode cX2_interest 115 = .ok (.goto 68, 3) := dk_167 0 68 (dk_at dksX2_interest_4 21 rfl rfl)
theorem dX2_interest_118 : decode cX2_interest 118 = .ok (.aload_n 0, 1) := dk_42 (dk_at dksX2_interest_5 0 rfl rfl)
theorem dX2_interest_119 : decode cX2_interest 119 = .ok (.iload_n 1, 1) := dk_27 (dk_at dksX2_interest_5 1 rfl rfl)
theorem dX2_interest_120 : decode cX2_interest 120 = .ok (.iload_n 3, 1) := dk_29 (dk_at dksX2_interest_5 2 rfl rfl)
theorem dX2_interest_121 : decode cX2_interest 121 = .ok (.invokevirtual 481, 3) := dk_182 1 225 (dk_at dksX2_interest_5 3 rfl rfl)
theorem dX2_interest_124 : decode cX2_interest 124 = .ok (.iconst (-1), 1) := dk_2 (dk_at dksX2_interest_5 6 rfl rfl)
theorem dX2_interest_125 : decode cX2_interest 125 = .ok (.if_icmp .eq 19, 3) := dk_159 0 19 (dk_at dksX2_interest_5 7 rfl rfl)
theorem dX2_interest_128 : decode cX2_interest 128 = .ok (.aload_n 0, 1) := dk_42 (dk_at dksX2_interest_5 10 rfl rfl)
theorem dX2_interest_129 : decode cX2_interest 129 = .ok (.iload_n 1, 1) := dk_27 (dk_at dksX2_interest_5 11 rfl rfl)
theorem dX2_interest_130 : decode cX2_interest 130 = .ok (.aload_n 0, 1) := dk_42 (dk_at dksX2_interest_5 12 rfl rfl)
theorem dX2_interest_131 : decode cX2_interest 131 = .ok (.iload_n 1, 1) := dk_27 (dk_at dksX2_interest_5 13 rfl rfl)
theorem dX2_interest_132 : decode cX2_interest 132 = .ok (.iload_n 3, 1) := dk_29 (dk_at dksX2_interest_5 14 rfl rfl)
theorem dX2_interest_133 : decode cX2_interest 133 = .ok (.invokevirtual 481, 3) := dk_182 1 225 (dk_at dksX2_interest_5 15 rfl rfl)
theorem dX2_interest_136 : decode cX2_interest 136 = .ok (.iload_n 2, 1) := dk_28 (dk_at dksX2_interest_5 18 rfl rfl)
theorem dX2_interest_137 : decode cX2_interest 137 = .ok (.iload_n 3, 1) := dk_29 (dk_at dksX2_interest_5 19 rfl rfl)
theorem dX2_interest_138 : decode cX2_interest 138 = .ok (.invokevirtual 484, 3) := dk_182 1 228 (dk_at dksX2_interest_5 20 rfl rfl)
theorem dX2_interest_141 : decode cX2_interest 141 = .ok (.goto 42, 3) := dk_167 0 42 (dk_at dksX2_interest_6 0 rfl rfl)
theorem dX2_interest_144 : decode cX2_interest 144 = .ok (.iload 6, 2) := dk_21 6 (dk_at dksX2_interest_6 3 rfl rfl)
theorem dX2_interest_146 : decode cX2_interest 146 = .ok (.iconst (-1), 1) := dk_2 (dk_at dksX2_interest_6 5 rfl rfl)
theorem dX2_interest_147 : decode cX2_interest 147 = .ok (.if_icmp .eq 25, 3) := dk_159 0 25 (dk_at dksX2_interest_6 6 rfl rfl)
theorem dX2_interest_150 : decode cX2_interest 150 = .ok (.aload_n 0, 1) := dk_42 (dk_at dksX2_interest_6 9 rfl rfl)
theorem dX2_interest_151 : decode cX2_interest 151 = .ok (.dup, 1) := dk_89 (dk_at dksX2_interest_6 10 rfl rfl)
theorem dX2_interest_152 : decode cX2_interest 152 = .ok (.getfield 396, 3) := dk_180 1 140 (dk_at dksX2_interest_6 11 rfl rfl)
theorem dX2_interest_155 : decode cX2_interest 155 = .ok (.iconst 1, 1) := dk_4 (dk_at dksX2_interest_6 14 rfl rfl)
theorem dX2_interest_156 : decode cX2_interest 156 = .ok (.iadd, 1) := dk_96 (dk_at dksX2_interest_6 15 rfl rfl)
theorem dX2_interest_157 : decode cX2_interest 157 = .ok (.putfield 396, 3) := dk_181 1 140 (dk_at dksX2_interest_6 16 rfl rfl)
theorem dX2_interest_160 : decode cX2_interest 160 = .ok (.aload_n 0, 1) := dk_42 (dk_at dksX2_interest_6 19 rfl rfl)
theorem dX2_interest_161 : decode cX2_interest 161 = .ok (.iload 6, 2) := dk_21 6 (dk_at dksX2_interest_6 20 rfl rfl)
theorem dX2_interest_163 : decode cX2_interest 163 = .ok (.iload_n 2, 1) := dk_28 (dk_at dksX2_interest_6 22 rfl rfl)
theorem dX2_interest_164 : decode cX2_interest 164 = .ok (.iload 5, 2) := dk_21 5 (dk_at dksX2_interest_7 0 rfl rfl)
theorem dX2_interest_166 : decode cX2_interest 166 = .ok (.invokevirtual 453, 3) := dk_182 1 197 (dk_at dksX2_interest_7 2 rfl rfl)
theorem dX2_interest_169 : decode cX2_interest 169 = .ok (.goto 14, 3) := dk_167 0 14 (dk_at dksX2_interest_7 5 rfl rfl)
theorem dX2_interest_172 : decode cX2_interest 172 = .ok (.aload_n 0, 1) := dk_42 (dk_at dksX2_interest_7 8 rfl rfl)
theorem dX2_interest_173 : decode cX2_interest 173 = .ok (.iload_n 1, 1) := dk_27 (dk_at dksX2_interest_7 9 rfl rfl)
theorem dX2_interest_174 : decode cX2_interest 174 = .ok (.iload_n 2, 1) := dk_28 (dk_at dksX2_interest_7 10 rfl rfl)
theorem dX2_interest_175 : decode cX2_interest 175 = .ok (.iload_n 3, 1) := dk_29 (dk_at dksX2_interest_7 11 rfl rfl)
theorem dX2_interest_176 : decode cX2_interest 176 = .ok (.iload 4, 2) := dk_21 4 (dk_at dksX2_interest_7 12 rfl rfl)
theorem dX2_interest_178 : decode cX2_interest 178 = .ok (.iload 5, 2) := dk_21 5 (dk_at dksX2_interest_7 14 rfl rfl)
theorem dX2_interest_180 : decode cX2_interest 180 = .ok (.invokevirtual 487, 3) := dk_182 1 231 (dk_at dksX2_interest_7 16 rfl rfl)
theorem dX2_interest_183 : decode cX2_interest 183 = .ok (.return_, 1) := dk_177 (dk_at dksX2_interest_7 19 rfl rfl)
abbrev cX2_entryOf : ByteArray := prog_25_method_65_code
def yX2_entryOf : MethodName := ⟨RX2, "entryOf", "(III)I"⟩
def dkwX2_entryOf_2 : List UInt8 := [27, 104, 21, 4, 96, 172, 132, 4, 1, 167, 255, 202, 2, 172]
abbrev dktX2_entryOf_2 : List UInt8 := dkwX2_entryOf_2 ++ []
def dkwX2_entryOf_1 : List UInt8 := [96, 46, 28, 160, 0, 27, 42, 180, 0, 69, 16, 64, 27, 104, 21, 4, 96, 46, 29, 160, 0, 11, 16, 64]
abbrev dktX2_entryOf_1 : List UInt8 := dkwX2_entryOf_1 ++ dktX2_entryOf_2
def dkwX2_entryOf_0 : List UInt8 := [3, 54, 4, 21, 4, 42, 180, 0, 63, 27, 46, 162, 0, 49, 42, 180, 0, 66, 16, 64, 27, 104, 21, 4]
abbrev dktX2_entryOf_0 : List UInt8 := dkwX2_entryOf_0 ++ dktX2_entryOf_1
theorem dksX2_entryOf_0 : cX2_entryOf.data.toList.drop 0 = dktX2_entryOf_0 := by decide +kernel
theorem dksX2_entryOf_1 : cX2_entryOf.data.toList.drop 24 = dktX2_entryOf_1 := dk_seg dksX2_entryOf_0 24 rfl rfl
theorem dksX2_entryOf_2 : cX2_entryOf.data.toList.drop 48 = dktX2_entryOf_2 := dk_seg dksX2_entryOf_1 24 rfl rfl
theorem dX2_entryOf_0 : decode cX2_entryOf 0 = .ok (.iconst 0, 1) := dk_3 (dk_at dksX2_entryOf_0 0 rfl rfl)
theorem dX2_entryOf_1 : decode cX2_entryOf 1 = .ok (.istore 4, 2) := dk_54 4 (dk_at dksX2_entryOf_0 1 rfl rfl)
theorem dX2_entryOf_3 : decode cX2_entryOf 3 = .ok (.iload 4, 2) := dk_21 4 (dk_at dksX2_entryOf_0 3 rfl rfl)
theorem dX2_entryOf_5 : decode cX2_entryOf 5 = .ok (.aload_n 0, 1) := dk_42 (dk_at dksX2_entryOf_0 5 rfl rfl)
theorem dX2_entryOf_6 : decode cX2_entryOf 6 = .ok (.getfield 63, 3) := dk_180 0 63 (dk_at dksX2_entryOf_0 6 rfl rfl)
theorem dX2_entryOf_9 : decode cX2_entryOf 9 = .ok (.iload_n 1, 1) := dk_27 (dk_at dksX2_entryOf_0 9 rfl rfl)
theorem dX2_entryOf_10 : decode cX2_entryOf 10 = .ok (.iaload, 1) := dk_46 (dk_at dksX2_entryOf_0 10 rfl rfl)
theorem dX2_entryOf_11 : decode cX2_entryOf 11 = .ok (.if_icmp .ge 49, 3) := dk_162 0 49 (dk_at dksX2_entryOf_0 11 rfl rfl)
theorem dX2_entryOf_14 : decode cX2_entryOf 14 = .ok (.aload_n 0, 1) := dk_42 (dk_at dksX2_entryOf_0 14 rfl rfl)
theorem dX2_entryOf_15 : decode cX2_entryOf 15 = .ok (.getfield 66, 3) := dk_180 0 66 (dk_at dksX2_entryOf_0 15 rfl rfl)
theorem dX2_entryOf_18 : decode cX2_entryOf 18 = .ok (.bipush 64, 2) := dk_16 64 (dk_at dksX2_entryOf_0 18 rfl rfl)
theorem dX2_entryOf_20 : decode cX2_entryOf 20 = .ok (.iload_n 1, 1) := dk_27 (dk_at dksX2_entryOf_0 20 rfl rfl)
theorem dX2_entryOf_21 : decode cX2_entryOf 21 = .ok (.imul, 1) := dk_104 (dk_at dksX2_entryOf_0 21 rfl rfl)
theorem dX2_entryOf_22 : decode cX2_entryOf 22 = .ok (.iload 4, 2) := dk_21 4 (dk_at dksX2_entryOf_0 22 rfl rfl)
theorem dX2_entryOf_24 : decode cX2_entryOf 24 = .ok (.iadd, 1) := dk_96 (dk_at dksX2_entryOf_1 0 rfl rfl)
theorem dX2_entryOf_25 : decode cX2_entryOf 25 = .ok (.iaload, 1) := dk_46 (dk_at dksX2_entryOf_1 1 rfl rfl)
theorem dX2_entryOf_26 : decode cX2_entryOf 26 = .ok (.iload_n 2, 1) := dk_28 (dk_at dksX2_entryOf_1 2 rfl rfl)
theorem dX2_entryOf_27 : decode cX2_entryOf 27 = .ok (.if_icmp .ne 27, 3) := dk_160 0 27 (dk_at dksX2_entryOf_1 3 rfl rfl)
theorem dX2_entryOf_30 : decode cX2_entryOf 30 = .ok (.aload_n 0, 1) := dk_42 (dk_at dksX2_entryOf_1 6 rfl rfl)
theorem dX2_entryOf_31 : decode cX2_entryOf 31 = .ok (.getfield 69, 3) := dk_180 0 69 (dk_at dksX2_entryOf_1 7 rfl rfl)
theorem dX2_entryOf_34 : decode cX2_entryOf 34 = .ok (.bipush 64, 2) := dk_16 64 (dk_at dksX2_entryOf_1 10 rfl rfl)
theorem dX2_entryOf_36 : decode cX2_entryOf 36 = .ok (.iload_n 1, 1) := dk_27 (dk_at dksX2_entryOf_1 12 rfl rfl)
theorem dX2_entryOf_37 : decode cX2_entryOf 37 = .ok (.imul, 1) := dk_104 (dk_at dksX2_entryOf_1 13 rfl rfl)
theorem dX2_entryOf_38 : decode cX2_entryOf 38 = .ok (.iload 4, 2) := dk_21 4 (dk_at dksX2_entryOf_1 14 rfl rfl)
theorem dX2_entryOf_40 : decode cX2_entryOf 40 = .ok (.iadd, 1) := dk_96 (dk_at dksX2_entryOf_1 16 rfl rfl)
theorem dX2_entryOf_41 : decode cX2_entryOf 41 = .ok (.iaload, 1) := dk_46 (dk_at dksX2_entryOf_1 17 rfl rfl)
theorem dX2_entryOf_42 : decode cX2_entryOf 42 = .ok (.iload_n 3, 1) := dk_29 (dk_at dksX2_entryOf_1 18 rfl rfl)
theorem dX2_entryOf_43 : decode cX2_entryOf 43 = .ok (.if_icmp .ne 11, 3) := dk_160 0 11 (dk_at dksX2_entryOf_1 19 rfl rfl)
theorem dX2_entryOf_46 : decode cX2_entryOf 46 = .ok (.bipush 64, 2) := dk_16 64 (dk_at dksX2_entryOf_1 22 rfl rfl)
theorem dX2_entryOf_48 : decode cX2_entryOf 48 = .ok (.iload_n 1, 1) := dk_27 (dk_at dksX2_entryOf_2 0 rfl rfl)
theorem dX2_entryOf_49 : decode cX2_entryOf 49 = .ok (.imul, 1) := dk_104 (dk_at dksX2_entryOf_2 1 rfl rfl)
theorem dX2_entryOf_50 : decode cX2_entryOf 50 = .ok (.iload 4, 2) := dk_21 4 (dk_at dksX2_entryOf_2 2 rfl rfl)
theorem dX2_entryOf_52 : decode cX2_entryOf 52 = .ok (.iadd, 1) := dk_96 (dk_at dksX2_entryOf_2 4 rfl rfl)
theorem dX2_entryOf_53 : decode cX2_entryOf 53 = .ok (.ireturn, 1) := dk_172 (dk_at dksX2_entryOf_2 5 rfl rfl)
theorem dX2_entryOf_54 : decode cX2_entryOf 54 = .ok (.iinc 4 1, 3) := dk_132 4 1 (dk_at dksX2_entryOf_2 6 rfl rfl)
theorem dX2_entryOf_57 : decode cX2_entryOf 57 = .ok (.goto (-54), 3) := dk_167 255 202 (dk_at dksX2_entryOf_2 9 rfl rfl)
theorem dX2_entryOf_60 : decode cX2_entryOf 60 = .ok (.iconst (-1), 1) := dk_2 (dk_at dksX2_entryOf_2 12 rfl rfl)
theorem dX2_entryOf_61 : decode cX2_entryOf 61 = .ok (.ireturn, 1) := dk_172 (dk_at dksX2_entryOf_2 13 rfl rfl)
abbrev cX2_storedAt : ByteArray := prog_25_method_62_code
def yX2_storedAt : MethodName := ⟨RX2, "storedAt", "(II)I"⟩
def dkwX2_storedAt_1 : List UInt8 := [160, 0, 5, 29, 172, 132, 3, 1, 167, 255, 226, 2, 172]
abbrev dktX2_storedAt_1 : List UInt8 := dkwX2_storedAt_1 ++ []
def dkwX2_storedAt_0 : List UInt8 := [3, 62, 29, 42, 180, 0, 51, 27, 46, 162, 0, 26, 42, 180, 0, 54, 16, 6, 27, 104, 29, 96, 46, 28]
abbrev dktX2_storedAt_0 : List UInt8 := dkwX2_storedAt_0 ++ dktX2_storedAt_1
theorem dksX2_storedAt_0 : cX2_storedAt.data.toList.drop 0 = dktX2_storedAt_0 := by decide +kernel
theorem dksX2_storedAt_1 : cX2_storedAt.data.toList.drop 24 = dktX2_storedAt_1 := dk_seg dksX2_storedAt_0 24 rfl rfl
theorem dX2_storedAt_0 : decode cX2_storedAt 0 = .ok (.iconst 0, 1) := dk_3 (dk_at dksX2_storedAt_0 0 rfl rfl)
theorem dX2_storedAt_1 : decode cX2_storedAt 1 = .ok (.istore_n 3, 1) := dk_62 (dk_at dksX2_storedAt_0 1 rfl rfl)
theorem dX2_storedAt_2 : decode cX2_storedAt 2 = .ok (.iload_n 3, 1) := dk_29 (dk_at dksX2_storedAt_0 2 rfl rfl)
theorem dX2_storedAt_3 : decode cX2_storedAt 3 = .ok (.aload_n 0, 1) := dk_42 (dk_at dksX2_storedAt_0 3 rfl rfl)
theorem dX2_storedAt_4 : decode cX2_storedAt 4 = .ok (.getfield 51, 3) := dk_180 0 51 (dk_at dksX2_storedAt_0 4 rfl rfl)
theorem dX2_storedAt_7 : decode cX2_storedAt 7 = .ok (.iload_n 1, 1) := dk_27 (dk_at dksX2_storedAt_0 7 rfl rfl)
theorem dX2_storedAt_8 : decode cX2_storedAt 8 = .ok (.iaload, 1) := dk_46 (dk_at dksX2_storedAt_0 8 rfl rfl)
theorem dX2_storedAt_9 : decode cX2_storedAt 9 = .ok (.if_icmp .ge 26, 3) := dk_162 0 26 (dk_at dksX2_storedAt_0 9 rfl rfl)
theorem dX2_storedAt_12 : decode cX2_storedAt 12 = .ok (.aload_n 0, 1) := dk_42 (dk_at dksX2_storedAt_0 12 rfl rfl)
theorem dX2_storedAt_13 : decode cX2_storedAt 13 = .ok (.getfield 54, 3) := dk_180 0 54 (dk_at dksX2_storedAt_0 13 rfl rfl)
theorem dX2_storedAt_16 : decode cX2_storedAt 16 = .ok (.bipush 6, 2) := dk_16 6 (dk_at dksX2_storedAt_0 16 rfl rfl)
theorem dX2_storedAt_18 : decode cX2_storedAt 18 = .ok (.iload_n 1, 1) := dk_27 (dk_at dksX2_storedAt_0 18 rfl rfl)
theorem dX2_storedAt_19 : decode cX2_storedAt 19 = .ok (.imul, 1) := dk_104 (dk_at dksX2_storedAt_0 19 rfl rfl)
theorem dX2_storedAt_20 : decode cX2_storedAt 20 = .ok (.iload_n 3, 1) := dk_29 (dk_at dksX2_storedAt_0 20 rfl rfl)
theorem dX2_storedAt_21 : decode cX2_storedAt 21 = .ok (.iadd, 1) := dk_96 (dk_at dksX2_storedAt_0 21 rfl rfl)
theorem dX2_storedAt_22 : decode cX2_storedAt 22 = .ok (.iaload, 1) := dk_46 (dk_at dksX2_storedAt_0 22 rfl rfl)
theorem dX2_storedAt_23 : decode cX2_storedAt 23 = .ok (.iload_n 2, 1) := dk_28 (dk_at dksX2_storedAt_0 23 rfl rfl)
theorem dX2_storedAt_24 : decode cX2_storedAt 24 = .ok (.if_icmp .ne 5, 3) := dk_160 0 5 (dk_at dksX2_storedAt_1 0 rfl rfl)
theorem dX2_storedAt_27 : decode cX2_storedAt 27 = .ok (.iload_n 3, 1) := dk_29 (dk_at dksX2_storedAt_1 3 rfl rfl)
theorem dX2_storedAt_28 : decode cX2_storedAt 28 = .ok (.ireturn, 1) := dk_172 (dk_at dksX2_storedAt_1 4 rfl rfl)
theorem dX2_storedAt_29 : decode cX2_storedAt 29 = .ok (.iinc 3 1, 3) := dk_132 3 1 (dk_at dksX2_storedAt_1 5 rfl rfl)
theorem dX2_storedAt_32 : decode cX2_storedAt 32 = .ok (.goto (-30), 3) := dk_167 255 226 (dk_at dksX2_storedAt_1 8 rfl rfl)
theorem dX2_storedAt_35 : decode cX2_storedAt 35 = .ok (.iconst (-1), 1) := dk_2 (dk_at dksX2_storedAt_1 11 rfl rfl)
theorem dX2_storedAt_36 : decode cX2_storedAt 36 = .ok (.ireturn, 1) := dk_172 (dk_at dksX2_storedAt_1 12 rfl rfl)
abbrev cX2_hasL : ByteArray := prog_25_method_67_code
def yX2_hasL : MethodName := ⟨RX2, "hasL", "(JI)Z"⟩
def dkwX2_hasL_0 : List UInt8 := [30, 28, 123, 10, 127, 10, 148, 154, 0, 7, 4, 167, 0, 4, 3, 172]
abbrev dktX2_hasL_0 : List UInt8 := dkwX2_hasL_0 ++ []
theorem dksX2_hasL_0 : cX2_hasL.data.toList.drop 0 = dktX2_hasL_0 := by decide +kernel
theorem dX2_hasL_0 : decode cX2_hasL 0 = .ok (.lload_n 0, 1) := dk_30 (dk_at dksX2_hasL_0 0 rfl rfl)
theorem dX2_hasL_1 : decode cX2_hasL 1 = .ok (.iload_n 2, 1) := dk_28 (dk_at dksX2_hasL_0 1 rfl rfl)
theorem dX2_hasL_2 : decode cX2_hasL 2 = .ok (.lshr, 1) := dk_123 (dk_at dksX2_hasL_0 2 rfl rfl)
theorem dX2_hasL_3 : decode cX2_hasL 3 = .ok (.lconst 1, 1) := dk_10 (dk_at dksX2_hasL_0 3 rfl rfl)
theorem dX2_hasL_4 : decode cX2_hasL 4 = .ok (.land, 1) := dk_127 (dk_at dksX2_hasL_0 4 rfl rfl)
theorem dX2_hasL_5 : decode cX2_hasL 5 = .ok (.lconst 1, 1) := dk_10 (dk_at dksX2_hasL_0 5 rfl rfl)
theorem dX2_hasL_6 : decode cX2_hasL 6 = .ok (.lcmp, 1) := dk_148 (dk_at dksX2_hasL_0 6 rfl rfl)
theorem dX2_hasL_7 : decode cX2_hasL 7 = .ok (.ifCond .ne 7, 3) := dk_154 0 7 (dk_at dksX2_hasL_0 7 rfl rfl)
theorem dX2_hasL_10 : decode cX2_hasL 10 = .ok (.iconst 1, 1) := dk_4 (dk_at dksX2_hasL_0 10 rfl rfl)
theorem dX2_hasL_11 : decode cX2_hasL 11 = .ok (.goto 4, 3) := dk_167 0 4 (dk_at dksX2_hasL_0 11 rfl rfl)
theorem dX2_hasL_14 : decode cX2_hasL 14 = .ok (.iconst 0, 1) := dk_3 (dk_at dksX2_hasL_0 14 rfl rfl)
theorem dX2_hasL_15 : decode cX2_hasL 15 = .ok (.ireturn, 1) := dk_172 (dk_at dksX2_hasL_0 15 rfl rfl)
abbrev cX2_firstNack : ByteArray := prog_25_method_61_code
def yX2_firstNack : MethodName := ⟨RX2, "firstNack", "(IIIII)V"⟩
def dkwX2_firstNack_1 : List UInt8 := [29, 21, 4, 182, 1, 177, 177]
abbrev dktX2_firstNack_1 : List UInt8 := dkwX2_firstNack_1 ++ []
def dkwX2_firstNack_0 : List UInt8 := [42, 4, 181, 1, 155, 42, 21, 5, 181, 1, 158, 42, 27, 181, 1, 161, 42, 3, 181, 1, 164, 42, 27, 28]
abbrev dktX2_firstNack_0 : List UInt8 := dkwX2_firstNack_0 ++ dktX2_firstNack_1
theorem dksX2_firstNack_0 : cX2_firstNack.data.toList.drop 0 = dktX2_firstNack_0 := by decide +kernel
theorem dksX2_firstNack_1 : cX2_firstNack.data.toList.drop 24 = dktX2_firstNack_1 := dk_seg dksX2_firstNack_0 24 rfl rfl
theorem dX2_firstNack_0 : decode cX2_firstNack 0 = .ok (.aload_n 0, 1) := dk_42 (dk_at dksX2_firstNack_0 0 rfl rfl)
theorem dX2_firstNack_1 : decode cX2_firstNack 1 = .ok (.iconst 1, 1) := dk_4 (dk_at dksX2_firstNack_0 1 rfl rfl)
theorem dX2_firstNack_2 : decode cX2_firstNack 2 = .ok (.putfield 411, 3) := dk_181 1 155 (dk_at dksX2_firstNack_0 2 rfl rfl)
theorem dX2_firstNack_5 : decode cX2_firstNack 5 = .ok (.aload_n 0, 1) := dk_42 (dk_at dksX2_firstNack_0 5 rfl rfl)
theorem dX2_firstNack_6 : decode cX2_firstNack 6 = .ok (.iload 5, 2) := dk_21 5 (dk_at dksX2_firstNack_0 6 rfl rfl)
theorem dX2_firstNack_8 : decode cX2_firstNack 8 = .ok (.putfield 414, 3) := dk_181 1 158 (dk_at dksX2_firstNack_0 8 rfl rfl)
theorem dX2_firstNack_11 : decode cX2_firstNack 11 = .ok (.aload_n 0, 1) := dk_42 (dk_at dksX2_firstNack_0 11 rfl rfl)
theorem dX2_firstNack_12 : decode cX2_firstNack 12 = .ok (.iload_n 1, 1) := dk_27 (dk_at dksX2_firstNack_0 12 rfl rfl)
theorem dX2_firstNack_13 : decode cX2_firstNack 13 = .ok (.putfield 417, 3) := dk_181 1 161 (dk_at dksX2_firstNack_0 13 rfl rfl)
theorem dX2_firstNack_16 : decode cX2_firstNack 16 = .ok (.aload_n 0, 1) := dk_42 (dk_at dksX2_firstNack_0 16 rfl rfl)
theorem dX2_firstNack_17 : decode cX2_firstNack 17 = .ok (.iconst 0, 1) := dk_3 (dk_at dksX2_firstNack_0 17 rfl rfl)
theorem dX2_firstNack_18 : decode cX2_firstNack 18 = .ok (.putfield 420, 3) := dk_181 1 164 (dk_at dksX2_firstNack_0 18 rfl rfl)
theorem dX2_firstNack_21 : decode cX2_firstNack 21 = .ok (.aload_n 0, 1) := dk_42 (dk_at dksX2_firstNack_0 21 rfl rfl)
theorem dX2_firstNack_22 : decode cX2_firstNack 22 = .ok (.iload_n 1, 1) := dk_27 (dk_at dksX2_firstNack_0 22 rfl rfl)
theorem dX2_firstNack_23 : decode cX2_firstNack 23 = .ok (.iload_n 2, 1) := dk_28 (dk_at dksX2_firstNack_0 23 rfl rfl)
theorem dX2_firstNack_24 : decode cX2_firstNack 24 = .ok (.iload_n 3, 1) := dk_29 (dk_at dksX2_firstNack_1 0 rfl rfl)
theorem dX2_firstNack_25 : decode cX2_firstNack 25 = .ok (.iload 4, 2) := dk_21 4 (dk_at dksX2_firstNack_1 1 rfl rfl)
theorem dX2_firstNack_27 : decode cX2_firstNack 27 = .ok (.invokevirtual 433, 3) := dk_182 1 177 (dk_at dksX2_firstNack_1 3 rfl rfl)
theorem dX2_firstNack_30 : decode cX2_firstNack 30 = .ok (.return_, 1) := dk_177 (dk_at dksX2_firstNack_1 6 rfl rfl)
abbrev cX2_nackTo : ByteArray := prog_25_method_60_code
def yX2_nackTo : MethodName := ⟨RX2, "nackTo", "(IIII)V"⟩
def dkwX2_nackTo_1 : List UInt8 := [3, 182, 1, 170, 177]
abbrev dktX2_nackTo_1 : List UInt8 := dkwX2_nackTo_1 ++ []
def dkwX2_nackTo_0 : List UInt8 := [28, 16, 100, 161, 0, 14, 42, 28, 16, 100, 100, 182, 1, 174, 167, 0, 14, 42, 5, 27, 28, 29, 21, 4]
abbrev dktX2_nackTo_0 : List UInt8 := dkwX2_nackTo_0 ++ dktX2_nackTo_1
theorem dksX2_nackTo_0 : cX2_nackTo.data.toList.drop 0 = dktX2_nackTo_0 := by decide +kernel
theorem dksX2_nackTo_1 : cX2_nackTo.data.toList.drop 24 = dktX2_nackTo_1 := dk_seg dksX2_nackTo_0 24 rfl rfl
theorem dX2_nackTo_0 : decode cX2_nackTo 0 = .ok (.iload_n 2, 1) := dk_28 (dk_at dksX2_nackTo_0 0 rfl rfl)
theorem dX2_nackTo_1 : decode cX2_nackTo 1 = .ok (.bipush 100, 2) := dk_16 100 (dk_at dksX2_nackTo_0 1 rfl rfl)
theorem dX2_nackTo_3 : decode cX2_nackTo 3 = .ok (.if_icmp .lt 14, 3) := dk_161 0 14 (dk_at dksX2_nackTo_0 3 rfl rfl)
theorem dX2_nackTo_6 : decode cX2_nackTo 6 = .ok (.aload_n 0, 1) := dk_42 (dk_at dksX2_nackTo_0 6 rfl rfl)
theorem dX2_nackTo_7 : decode cX2_nackTo 7 = .ok (.iload_n 2, 1) := dk_28 (dk_at dksX2_nackTo_0 7 rfl rfl)
theorem dX2_nackTo_8 : decode cX2_nackTo 8 = .ok (.bipush 100, 2) := dk_16 100 (dk_at dksX2_nackTo_0 8 rfl rfl)
theorem dX2_nackTo_10 : decode cX2_nackTo 10 = .ok (.isub, 1) := dk_100 (dk_at dksX2_nackTo_0 10 rfl rfl)
theorem dX2_nackTo_11 : decode cX2_nackTo 11 = .ok (.invokevirtual 430, 3) := dk_182 1 174 (dk_at dksX2_nackTo_0 11 rfl rfl)
theorem dX2_nackTo_14 : decode cX2_nackTo 14 = .ok (.goto 14, 3) := dk_167 0 14 (dk_at dksX2_nackTo_0 14 rfl rfl)
theorem dX2_nackTo_17 : decode cX2_nackTo 17 = .ok (.aload_n 0, 1) := dk_42 (dk_at dksX2_nackTo_0 17 rfl rfl)
theorem dX2_nackTo_18 : decode cX2_nackTo 18 = .ok (.iconst 2, 1) := dk_5 (dk_at dksX2_nackTo_0 18 rfl rfl)
theorem dX2_nackTo_19 : decode cX2_nackTo 19 = .ok (.iload_n 1, 1) := dk_27 (dk_at dksX2_nackTo_0 19 rfl rfl)
theorem dX2_nackTo_20 : decode cX2_nackTo 20 = .ok (.iload_n 2, 1) := dk_28 (dk_at dksX2_nackTo_0 20 rfl rfl)
theorem dX2_nackTo_21 : decode cX2_nackTo 21 = .ok (.iload_n 3, 1) := dk_29 (dk_at dksX2_nackTo_0 21 rfl rfl)
theorem dX2_nackTo_22 : decode cX2_nackTo 22 = .ok (.iload 4, 2) := dk_21 4 (dk_at dksX2_nackTo_0 22 rfl rfl)
theorem dX2_nackTo_24 : decode cX2_nackTo 24 = .ok (.iconst 0, 1) := dk_3 (dk_at dksX2_nackTo_1 0 rfl rfl)
theorem dX2_nackTo_25 : decode cX2_nackTo 25 = .ok (.invokevirtual 426, 3) := dk_182 1 170 (dk_at dksX2_nackTo_1 1 rfl rfl)
theorem dX2_nackTo_28 : decode cX2_nackTo 28 = .ok (.return_, 1) := dk_177 (dk_at dksX2_nackTo_1 4 rfl rfl)
abbrev cX2_refused : ByteArray := prog_25_method_58_code
def yX2_refused : MethodName := ⟨RX2, "refused", "(I)V"⟩
def dkwX2_refused_2 : List UInt8 := [177]
abbrev dktX2_refused_2 : List UInt8 := dkwX2_refused_2 ++ []
def dkwX2_refused_1 : List UInt8 := [180, 1, 155, 79, 42, 180, 0, 147, 27, 42, 180, 1, 158, 79, 42, 180, 0, 150, 27, 42, 180, 1, 161, 79]
abbrev dktX2_refused_1 : List UInt8 := dkwX2_refused_1 ++ dktX2_refused_2
def dkwX2_refused_0 : List UInt8 := [42, 180, 0, 129, 27, 5, 79, 42, 180, 0, 132, 27, 42, 180, 1, 128, 79, 42, 180, 0, 144, 27, 42]
abbrev dktX2_refused_0 : List UInt8 := dkwX2_refused_0 ++ dktX2_refused_1
theorem dksX2_refused_0 : cX2_refused.data.toList.drop 0 = dktX2_refused_0 := by decide +kernel
theorem dksX2_refused_1 : cX2_refused.data.toList.drop 23 = dktX2_refused_1 := dk_seg dksX2_refused_0 23 rfl rfl
theorem dksX2_refused_2 : cX2_refused.data.toList.drop 47 = dktX2_refused_2 := dk_seg dksX2_refused_1 24 rfl rfl
theorem dX2_refused_0 : decode cX2_refused 0 = .ok (.aload_n 0, 1) := dk_42 (dk_at dksX2_refused_0 0 rfl rfl)
theorem dX2_refused_1 : decode cX2_refused 1 = .ok (.getfield 129, 3) := dk_180 0 129 (dk_at dksX2_refused_0 1 rfl rfl)
theorem dX2_refused_4 : decode cX2_refused 4 = .ok (.iload_n 1, 1) := dk_27 (dk_at dksX2_refused_0 4 rfl rfl)
theorem dX2_refused_5 : decode cX2_refused 5 = .ok (.iconst 2, 1) := dk_5 (dk_at dksX2_refused_0 5 rfl rfl)
theorem dX2_refused_6 : decode cX2_refused 6 = .ok (.iastore, 1) := dk_79 (dk_at dksX2_refused_0 6 rfl rfl)
theorem dX2_refused_7 : decode cX2_refused 7 = .ok (.aload_n 0, 1) := dk_42 (dk_at dksX2_refused_0 7 rfl rfl)
theorem dX2_refused_8 : decode cX2_refused 8 = .ok (.getfield 132, 3) := dk_180 0 132 (dk_at dksX2_refused_0 8 rfl rfl)
theorem dX2_refused_11 : decode cX2_refused 11 = .ok (.iload_n 1, 1) := dk_27 (dk_at dksX2_refused_0 11 rfl rfl)
theorem dX2_refused_12 : decode cX2_refused 12 = .ok (.aload_n 0, 1) := dk_42 (dk_at dksX2_refused_0 12 rfl rfl)
theorem dX2_refused_13 : decode cX2_refused 13 = .ok (.getfield 384, 3) := dk_180 1 128 (dk_at dksX2_refused_0 13 rfl rfl)
theorem dX2_refused_16 : decode cX2_refused 16 = .ok (.iastore, 1) := dk_79 (dk_at dksX2_refused_0 16 rfl rfl)
theorem dX2_refused_17 : decode cX2_refused 17 = .ok (.aload_n 0, 1) := dk_42 (dk_at dksX2_refused_0 17 rfl rfl)
theorem dX2_refused_18 : decode cX2_refused 18 = .ok (.getfield 144, 3) := dk_180 0 144 (dk_at dksX2_refused_0 18 rfl rfl)
theorem dX2_refused_21 : decode cX2_refused 21 = .ok (.iload_n 1, 1) := dk_27 (dk_at dksX2_refused_0 21 rfl rfl)
theorem dX2_refused_22 : decode cX2_refused 22 = .ok (.aload_n 0, 1) := dk_42 (dk_at dksX2_refused_0 22 rfl rfl)
theorem dX2_refused_23 : decode cX2_refused 23 = .ok (.getfield 411, 3) := dk_180 1 155 (dk_at dksX2_refused_1 0 rfl rfl)
theorem dX2_refused_26 : decode cX2_refused 26 = .ok (.iastore, 1) := dk_79 (dk_at dksX2_refused_1 3 rfl rfl)
theorem dX2_refused_27 : decode cX2_refused 27 = .ok (.aload_n 0, 1) := dk_42 (dk_at dksX2_refused_1 4 rfl rfl)
theorem dX2_refused_28 : decode cX2_refused 28 = .ok (.getfield 147, 3) := dk_180 0 147 (dk_at dksX2_refused_1 5 rfl rfl)
theorem dX2_refused_31 : decode cX2_refused 31 = .ok (.iload_n 1, 1) := dk_27 (dk_at dksX2_refused_1 8 rfl rfl)
theorem dX2_refused_32 : decode cX2_refused 32 = .ok (.aload_n 0, 1) := dk_42 (dk_at dksX2_refused_1 9 rfl rfl)
theorem dX2_refused_33 : decode cX2_refused 33 = .ok (.getfield 414, 3) := dk_180 1 158 (dk_at dksX2_refused_1 10 rfl rfl)
theorem dX2_refused_36 : decode cX2_refused 36 = .ok (.iastore, 1) := dk_79 (dk_at dksX2_refused_1 13 rfl rfl)
theorem dX2_refused_37 : decode cX2_refused 37 = .ok (.aload_n 0, 1) := dk_42 (dk_at dksX2_refused_1 14 rfl rfl)
theorem dX2_refused_38 : decode cX2_refused 38 = .ok (.getfield 150, 3) := dk_180 0 150 (dk_at dksX2_refused_1 15 rfl rfl)
theorem dX2_refused_41 : decode cX2_refused 41 = .ok (.iload_n 1, 1) := dk_27 (dk_at dksX2_refused_1 18 rfl rfl)
theorem dX2_refused_42 : decode cX2_refused 42 = .ok (.aload_n 0, 1) := dk_42 (dk_at dksX2_refused_1 19 rfl rfl)
theorem dX2_refused_43 : decode cX2_refused 43 = .ok (.getfield 417, 3) := dk_180 1 161 (dk_at dksX2_refused_1 20 rfl rfl)
theorem dX2_refused_46 : decode cX2_refused 46 = .ok (.iastore, 1) := dk_79 (dk_at dksX2_refused_1 23 rfl rfl)
theorem dX2_refused_47 : decode cX2_refused 47 = .ok (.return_, 1) := dk_177 (dk_at dksX2_refused_2 0 rfl rfl)
abbrev cX2_sends : ByteArray := prog_25_method_56_code
def yX2_sends : MethodName := ⟨RX2, "sends", "(IIIIII)V"⟩
def dkwX2_sends_7 : List UInt8 := [79, 42, 89, 180, 1, 131, 4, 96, 181, 1, 131, 42, 89, 180, 1, 134, 4, 96, 181, 1, 134, 177]
abbrev dktX2_sends_7 : List UInt8 := dkwX2_sends_7 ++ []
def dkwX2_sends_6 : List UInt8 := [180, 0, 123, 42, 180, 1, 131, 42, 180, 1, 161, 79, 42, 180, 0, 126, 42, 180, 1, 131, 42, 180, 1, 164]
abbrev dktX2_sends_6 : List UInt8 := dkwX2_sends_6 ++ dktX2_sends_7
def dkwX2_sends_5 : List UInt8 := [180, 1, 131, 42, 180, 1, 155, 79, 42, 180, 0, 120, 42, 180, 1, 131, 42, 180, 1, 158, 79, 42]
abbrev dktX2_sends_5 : List UInt8 := dkwX2_sends_5 ++ dktX2_sends_6
def dkwX2_sends_4 : List UInt8 := [42, 180, 0, 41, 16, 6, 28, 104, 29, 96, 46, 5, 182, 1, 92, 96, 79, 42, 180, 0, 117, 42]
abbrev dktX2_sends_4 : List UInt8 := dkwX2_sends_4 ++ dktX2_sends_5
def dkwX2_sends_3 : List UInt8 := [42, 180, 0, 111, 42, 180, 1, 131, 21, 6, 79, 42, 180, 0, 114, 42, 180, 1, 131, 42, 180, 1, 128, 42]
abbrev dktX2_sends_3 : List UInt8 := dkwX2_sends_3 ++ dktX2_sends_4
def dkwX2_sends_2 : List UInt8 := [29, 79, 42, 180, 0, 105, 42, 180, 1, 131, 21, 4, 79, 42, 180, 0, 108, 42, 180, 1, 131, 21, 5, 79]
abbrev dktX2_sends_2 : List UInt8 := dkwX2_sends_2 ++ dktX2_sends_3
def dkwX2_sends_1 : List UInt8 := [42, 180, 1, 131, 27, 79, 42, 180, 0, 99, 42, 180, 1, 131, 28, 79, 42, 180, 0, 102, 42, 180, 1, 131]
abbrev dktX2_sends_1 : List UInt8 := dkwX2_sends_1 ++ dktX2_sends_2
def dkwX2_sends_0 : List UInt8 := [42, 28, 29, 182, 1, 152, 154, 0, 14, 42, 89, 180, 1, 149, 4, 96, 181, 1, 149, 177, 42, 180, 0, 96]
abbrev dktX2_sends_0 : List UInt8 := dkwX2_sends_0 ++ dktX2_sends_1
theorem dksX2_sends_0 : cX2_sends.data.toList.drop 0 = dktX2_sends_0 := by decide +kernel
theorem dksX2_sends_1 : cX2_sends.data.toList.drop 24 = dktX2_sends_1 := dk_seg dksX2_sends_0 24 rfl rfl
theorem dksX2_sends_2 : cX2_sends.data.toList.drop 48 = dktX2_sends_2 := dk_seg dksX2_sends_1 24 rfl rfl
theorem dksX2_sends_3 : cX2_sends.data.toList.drop 72 = dktX2_sends_3 := dk_seg dksX2_sends_2 24 rfl rfl
theorem dksX2_sends_4 : cX2_sends.data.toList.drop 96 = dktX2_sends_4 := dk_seg dksX2_sends_3 24 rfl rfl
theorem dksX2_sends_5 : cX2_sends.data.toList.drop 118 = dktX2_sends_5 := dk_seg dksX2_sends_4 22 rfl rfl
theorem dksX2_sends_6 : cX2_sends.data.toList.drop 140 = dktX2_sends_6 := dk_seg dksX2_sends_5 22 rfl rfl
theorem dksX2_sends_7 : cX2_sends.data.toList.drop 164 = dktX2_sends_7 := dk_seg dksX2_sends_6 24 rfl rfl
theorem dX2_sends_0 : decode cX2_sends 0 = .ok (.aload_n 0, 1) := dk_42 (dk_at dksX2_sends_0 0 rfl rfl)
theorem dX2_sends_1 : decode cX2_sends 1 = .ok (.iload_n 2, 1) := dk_28 (dk_at dksX2_sends_0 1 rfl rfl)
theorem dX2_sends_2 : decode cX2_sends 2 = .ok (.iload_n 3, 1) := dk_29 (dk_at dksX2_sends_0 2 rfl rfl)
theorem dX2_sends_3 : decode cX2_sends 3 = .ok (.invokevirtual 408, 3) := dk_182 1 152 (dk_at dksX2_sends_0 3 rfl rfl)
theorem dX2_sends_6 : decode cX2_sends 6 = .ok (.ifCond .ne 14, 3) := dk_154 0 14 (dk_at dksX2_sends_0 6 rfl rfl)
theorem dX2_sends_9 : decode cX2_sends 9 = .ok (.aload_n 0, 1) := dk_42 (dk_at dksX2_sends_0 9 rfl rfl)
theorem dX2_sends_10 : decode cX2_sends 10 = .ok (.dup, 1) := dk_89 (dk_at dksX2_sends_0 10 rfl rfl)
theorem dX2_sends_11 : decode cX2_sends 11 = .ok (.getfield 405, 3) := dk_180 1 149 (dk_at dksX2_sends_0 11 rfl rfl)
theorem dX2_sends_14 : decode cX2_sends 14 = .ok (.iconst 1, 1) := dk_4 (dk_at dksX2_sends_0 14 rfl rfl)
theorem dX2_sends_15 : decode cX2_sends 15 = .ok (.iadd, 1) := dk_96 (dk_at dksX2_sends_0 15 rfl rfl)
theorem dX2_sends_16 : decode cX2_sends 16 = .ok (.putfield 405, 3) := dk_181 1 149 (dk_at dksX2_sends_0 16 rfl rfl)
theorem dX2_sends_19 : decode cX2_sends 19 = .ok (.return_, 1) := dk_177 (dk_at dksX2_sends_0 19 rfl rfl)
theorem dX2_sends_20 : decode cX2_sends 20 = .ok (.aload_n 0, 1) := dk_42 (dk_at dksX2_sends_0 20 rfl rfl)
theorem dX2_sends_21 : decode cX2_sends 21 = .ok (.getfield 96, 3) := dk_180 0 96 (dk_at dksX2_sends_0 21 rfl rfl)
theorem dX2_sends_24 : decode cX2_sends 24 = .ok (.aload_n 0, 1) := dk_42 (dk_at dksX2_sends_1 0 rfl rfl)
theorem dX2_sends_25 : decode cX2_sends 25 = .ok (.getfield 387, 3) := dk_180 1 131 (dk_at dksX2_sends_1 1 rfl rfl)
theorem dX2_sends_28 : decode cX2_sends 28 = .ok (.iload_n 1, 1) := dk_27 (dk_at dksX2_sends_1 4 rfl rfl)
theorem dX2_sends_29 : decode cX2_sends 29 = .ok (.iastore, 1) := dk_79 (dk_at dksX2_sends_1 5 rfl rfl)
theorem dX2_sends_30 : decode cX2_sends 30 = .ok (.aload_n 0, 1) := dk_42 (dk_at dksX2_sends_1 6 rfl rfl)
theorem dX2_sends_31 : decode cX2_sends 31 = .ok (.getfield 99, 3) := dk_180 0 99 (dk_at dksX2_sends_1 7 rfl rfl)
theorem dX2_sends_34 : decode cX2_sends 34 = .ok (.aload_n 0, 1) := dk_42 (dk_at dksX2_sends_1 10 rfl rfl)
theorem dX2_sends_35 : decode cX2_sends 35 = .ok (.getfield 387, 3) := dk_180 1 131 (dk_at dksX2_sends_1 11 rfl rfl)
theorem dX2_sends_38 : decode cX2_sends 38 = .ok (.iload_n 2, 1) := dk_28 (dk_at dksX2_sends_1 14 rfl rfl)
theorem dX2_sends_39 : decode cX2_sends 39 = .ok (.iastore, 1) := dk_79 (dk_at dksX2_sends_1 15 rfl rfl)
theorem dX2_sends_40 : decode cX2_sends 40 = .ok (.aload_n 0, 1) := dk_42 (dk_at dksX2_sends_1 16 rfl rfl)
theorem dX2_sends_41 : decode cX2_sends 41 = .ok (.getfield 102, 3) := dk_180 0 102 (dk_at dksX2_sends_1 17 rfl rfl)
theorem dX2_sends_44 : decode cX2_sends 44 = .ok (.aload_n 0, 1) := dk_42 (dk_at dksX2_sends_1 20 rfl rfl)
theorem dX2_sends_45 : decode cX2_sends 45 = .ok (.getfield 387, 3) := dk_180 1 131 (dk_at dksX2_sends_1 21 rfl rfl)
theorem dX2_sends_48 : decode cX2_sends 48 = .ok (.iload_n 3, 1) := dk_29 (dk_at dksX2_sends_2 0 rfl rfl)
theorem dX2_sends_49 : decode cX2_sends 49 = .ok (.iastore, 1) := dk_79 (dk_at dksX2_sends_2 1 rfl rfl)
theorem dX2_sends_50 : decode cX2_sends 50 = .ok (.aload_n 0, 1) := dk_42 (dk_at dksX2_sends_2 2 rfl rfl)
theorem dX2_sends_51 : decode cX2_sends 51 = .ok (.getfield 105, 3) := dk_180 0 105 (dk_at dksX2_sends_2 3 rfl rfl)
theorem dX2_sends_54 : decode cX2_sends 54 = .ok (.aload_n 0, 1) := dk_42 (dk_at dksX2_sends_2 6 rfl rfl)
theorem dX2_sends_55 : decode cX2_sends 55 = .ok (.getfield 387, 3) := dk_180 1 131 (dk_at dksX2_sends_2 7 rfl rfl)
theorem dX2_sends_58 : decode cX2_sends 58 = .ok (.iload 4, 2) := dk_21 4 (dk_at dksX2_sends_2 10 rfl rfl)
theorem dX2_sends_60 : decode cX2_sends 60 = .ok (.iastore, 1) := dk_79 (dk_at dksX2_sends_2 12 rfl rfl)
theorem dX2_sends_61 : decode cX2_sends 61 = .ok (.aload_n 0, 1) := dk_42 (dk_at dksX2_sends_2 13 rfl rfl)
theorem dX2_sends_62 : decode cX2_sends 62 = .ok (.getfield 108, 3) := dk_180 0 108 (dk_at dksX2_sends_2 14 rfl rfl)
theorem dX2_sends_65 : decode cX2_sends 65 = .ok (.aload_n 0, 1) := dk_42 (dk_at dksX2_sends_2 17 rfl rfl)
theorem dX2_sends_66 : decode cX2_sends 66 = .ok (.getfield 387, 3) := dk_180 1 131 (dk_at dksX2_sends_2 18 rfl rfl)
theorem dX2_sends_69 : decode cX2_sends 69 = .ok (.iload 5, 2) := dk_21 5 (dk_at dksX2_sends_2 21 rfl rfl)
theorem dX2_sends_71 : decode cX2_sends 71 = .ok (.iastore, 1) := dk_79 (dk_at dksX2_sends_2 23 rfl rfl)
theorem dX2_sends_72 : decode cX2_sends 72 = .ok (.aload_n 0, 1) := dk_42 (dk_at dksX2_sends_3 0 rfl rfl)
theorem dX2_sends_73 : decode cX2_sends 73 = .ok (.getfield 111, 3) := dk_180 0 111 (dk_at dksX2_sends_3 1 rfl rfl)
theorem dX2_sends_76 : decode cX2_sends 76 = .ok (.aload_n 0, 1) := dk_42 (dk_at dksX2_sends_3 4 rfl rfl)
theorem dX2_sends_77 : decode cX2_sends 77 = .ok (.getfield 387, 3) := dk_180 1 131 (dk_at dksX2_sends_3 5 rfl rfl)
theorem dX2_sends_80 : decode cX2_sends 80 = .ok (.iload 6, 2) := dk_21 6 (dk_at dksX2_sends_3 8 rfl rfl)
theorem dX2_sends_82 : decode cX2_sends 82 = .ok (.iastore, 1) := dk_79 (dk_at dksX2_sends_3 10 rfl rfl)
theorem dX2_sends_83 : decode cX2_sends 83 = .ok (.aload_n 0, 1) := dk_42 (dk_at dksX2_sends_3 11 rfl rfl)
theorem dX2_sends_84 : decode cX2_sends 84 = .ok (.getfield 114, 3) := dk_180 0 114 (dk_at dksX2_sends_3 12 rfl rfl)
theorem dX2_sends_87 : decode cX2_sends 87 = .ok (.aload_n 0, 1) := dk_42 (dk_at dksX2_sends_3 15 rfl rfl)
theorem dX2_sends_88 : decode cX2_sends 88 = .ok (.getfield 387, 3) := dk_180 1 131 (dk_at dksX2_sends_3 16 rfl rfl)
theorem dX2_sends_91 : decode cX2_sends 91 = .ok (.aload_n 0, 1) := dk_42 (dk_at dksX2_sends_3 19 rfl rfl)
theorem dX2_sends_92 : decode cX2_sends 92 = .ok (.getfield 384, 3) := dk_180 1 128 (dk_at dksX2_sends_3 20 rfl rfl)
theorem dX2_sends_95 : decode cX2_sends 95 = .ok (.aload_n 0, 1) := dk_42 (dk_at dksX2_sends_3 23 rfl rfl)
theorem dX2_sends_96 : decode cX2_sends 96 = .ok (.aload_n 0, 1) := dk_42 (dk_at dksX2_sends_4 0 rfl rfl)
theorem dX2_sends_97 : decode cX2_sends 97 = .ok (.getfield 41, 3) := dk_180 0 41 (dk_at dksX2_sends_4 1 rfl rfl)
theorem dX2_sends_100 : decode cX2_sends 100 = .ok (.bipush 6, 2) := dk_16 6 (dk_at dksX2_sends_4 4 rfl rfl)
theorem dX2_sends_102 : decode cX2_sends 102 = .ok (.iload_n 2, 1) := dk_28 (dk_at dksX2_sends_4 6 rfl rfl)
theorem dX2_sends_103 : decode cX2_sends 103 = .ok (.imul, 1) := dk_104 (dk_at dksX2_sends_4 7 rfl rfl)
theorem dX2_sends_104 : decode cX2_sends 104 = .ok (.iload_n 3, 1) := dk_29 (dk_at dksX2_sends_4 8 rfl rfl)
theorem dX2_sends_105 : decode cX2_sends 105 = .ok (.iadd, 1) := dk_96 (dk_at dksX2_sends_4 9 rfl rfl)
theorem dX2_sends_106 : decode cX2_sends 106 = .ok (.iaload, 1) := dk_46 (dk_at dksX2_sends_4 10 rfl rfl)
theorem dX2_sends_107 : decode cX2_sends 107 = .ok (.iconst 2, 1) := dk_5 (dk_at dksX2_sends_4 11 rfl rfl)
theorem dX2_sends_108 : decode cX2_sends 108 = .ok (.invokevirtual 348, 3) := dk_182 1 92 (dk_at dksX2_sends_4 12 rfl rfl)
theorem dX2_sends_111 : decode cX2_sends 111 = .ok (.iadd, 1) := dk_96 (dk_at dksX2_sends_4 15 rfl rfl)
theorem dX2_sends_112 : decode cX2_sends 112 = .ok (.iastore, 1) := dk_79 (dk_at dksX2_sends_4 16 rfl rfl)
theorem dX2_sends_113 : decode cX2_sends 113 = .ok (.aload_n 0, 1) := dk_42 (dk_at dksX2_sends_4 17 rfl rfl)
theorem dX2_sends_114 : decode cX2_sends 114 = .ok (.getfield 117, 3) := dk_180 0 117 (dk_at dksX2_sends_4 18 rfl rfl)
theorem dX2_sends_117 : decode cX2_sends 117 = .ok (.aload_n 0, 1) := dk_42 (dk_at dksX2_sends_4 21 rfl rfl)
theorem dX2_sends_118 : decode cX2_sends 118 = .ok (.getfield 387, 3) := dk_180 1 131 (dk_at dksX2_sends_5 0 rfl rfl)
theorem dX2_sends_121 : decode cX2_sends 121 = .ok (.aload_n 0, 1) := dk_42 (dk_at dksX2_sends_5 3 rfl rfl)
theorem dX2_sends_122 : decode cX2_sends 122 = .ok (.getfield 411, 3) := dk_180 1 155 (dk_at dksX2_sends_5 4 rfl rfl)
theorem dX2_sends_125 : decode cX2_sends 125 = .ok (.iastore, 1) := dk_79 (dk_at dksX2_sends_5 7 rfl rfl)
theorem dX2_sends_126 : decode cX2_sends 126 = .ok (.aload_n 0, 1) := dk_42 (dk_at dksX2_sends_5 8 rfl rfl)
theorem dX2_sends_127 : decode cX2_sends 127 = .ok (.getfield 120, 3) := dk_180 0 120 (dk_at dksX2_sends_5 9 rfl rfl)
theorem dX2_sends_130 : decode cX2_sends 130 = .ok (.aload_n 0, 1) := dk_42 (dk_at dksX2_sends_5 12 rfl rfl)
theorem dX2_sends_131 : decode cX2_sends 131 = .ok (.getfield 387, 3) := dk_180 1 131 (dk_at dksX2_sends_5 13 rfl rfl)
theorem dX2_sends_134 : decode cX2_sends 134 = .ok (.aload_n 0, 1) := dk_42 (dk_at dksX2_sends_5 16 rfl rfl)
theorem dX2_sends_135 : decode cX2_sends 135 = .ok (.getfield 414, 3) := dk_180 1 158 (dk_at dksX2_sends_5 17 rfl rfl)
theorem dX2_sends_138 : decode cX2_sends 138 = .ok (.iastore, 1) := dk_79 (dk_at dksX2_sends_5 20 rfl rfl)
theorem dX2_sends_139 : decode cX2_sends 139 = .ok (.aload_n 0, 1) := dk_42 (dk_at dksX2_sends_5 21 rfl rfl)
theorem dX2_sends_140 : decode cX2_sends 140 = .ok (.getfield 123, 3) := dk_180 0 123 (dk_at dksX2_sends_6 0 rfl rfl)
theorem dX2_sends_143 : decode cX2_sends 143 = .ok (.aload_n 0, 1) := dk_42 (dk_at dksX2_sends_6 3 rfl rfl)
theorem dX2_sends_144 : decode cX2_sends 144 = .ok (.getfield 387, 3) := dk_180 1 131 (dk_at dksX2_sends_6 4 rfl rfl)
theorem dX2_sends_147 : decode cX2_sends 147 = .ok (.aload_n 0, 1) := dk_42 (dk_at dksX2_sends_6 7 rfl rfl)
theorem dX2_sends_148 : decode cX2_sends 148 = .ok (.getfield 417, 3) := dk_180 1 161 (dk_at dksX2_sends_6 8 rfl rfl)
theorem dX2_sends_151 : decode cX2_sends 151 = .ok (.iastore, 1) := dk_79 (dk_at dksX2_sends_6 11 rfl rfl)
theorem dX2_sends_152 : decode cX2_sends 152 = .ok (.aload_n 0, 1) := dk_42 (dk_at dksX2_sends_6 12 rfl rfl)
theorem dX2_sends_153 : decode cX2_sends 153 = .ok (.getfield 126, 3) := dk_180 0 126 (dk_at dksX2_sends_6 13 rfl rfl)
theorem dX2_sends_156 : decode cX2_sends 156 = .ok (.aload_n 0, 1) := dk_42 (dk_at dksX2_sends_6 16 rfl rfl)
theorem dX2_sends_157 : decode cX2_sends 157 = .ok (.getfield 387, 3) := dk_180 1 131 (dk_at dksX2_sends_6 17 rfl rfl)
theorem dX2_sends_160 : decode cX2_sends 160 = .ok (.aload_n 0, 1) := dk_42 (dk_at dksX2_sends_6 20 rfl rfl)
theorem dX2_sends_161 : decode cX2_sends 161 = .ok (.getfield 420, 3) := dk_180 1 164 (dk_at dksX2_sends_6 21 rfl rfl)
theorem dX2_sends_164 : decode cX2_sends 164 = .ok (.iastore, 1) := dk_79 (dk_at dksX2_sends_7 0 rfl rfl)
theorem dX2_sends_165 : decode cX2_sends 165 = .ok (.aload_n 0, 1) := dk_42 (dk_at dksX2_sends_7 1 rfl rfl)
theorem dX2_sends_166 : decode cX2_sends 166 = .ok (.dup, 1) := dk_89 (dk_at dksX2_sends_7 2 rfl rfl)
theorem dX2_sends_167 : decode cX2_sends 167 = .ok (.getfield 387, 3) := dk_180 1 131 (dk_at dksX2_sends_7 3 rfl rfl)
theorem dX2_sends_170 : decode cX2_sends 170 = .ok (.iconst 1, 1) := dk_4 (dk_at dksX2_sends_7 6 rfl rfl)
theorem dX2_sends_171 : decode cX2_sends 171 = .ok (.iadd, 1) := dk_96 (dk_at dksX2_sends_7 7 rfl rfl)
theorem dX2_sends_172 : decode cX2_sends 172 = .ok (.putfield 387, 3) := dk_181 1 131 (dk_at dksX2_sends_7 8 rfl rfl)
theorem dX2_sends_175 : decode cX2_sends 175 = .ok (.aload_n 0, 1) := dk_42 (dk_at dksX2_sends_7 11 rfl rfl)
theorem dX2_sends_176 : decode cX2_sends 176 = .ok (.dup, 1) := dk_89 (dk_at dksX2_sends_7 12 rfl rfl)
theorem dX2_sends_177 : decode cX2_sends 177 = .ok (.getfield 390, 3) := dk_180 1 134 (dk_at dksX2_sends_7 13 rfl rfl)
theorem dX2_sends_180 : decode cX2_sends 180 = .ok (.iconst 1, 1) := dk_4 (dk_at dksX2_sends_7 16 rfl rfl)
theorem dX2_sends_181 : decode cX2_sends 181 = .ok (.iadd, 1) := dk_96 (dk_at dksX2_sends_7 17 rfl rfl)
theorem dX2_sends_182 : decode cX2_sends 182 = .ok (.putfield 390, 3) := dk_181 1 134 (dk_at dksX2_sends_7 18 rfl rfl)
theorem dX2_sends_185 : decode cX2_sends 185 = .ok (.return_, 1) := dk_177 (dk_at dksX2_sends_7 21 rfl rfl)
abbrev cX2_isUp : ByteArray := prog_25_method_46_code
def yX2_isUp : MethodName := ⟨RX2, "isUp", "(II)Z"⟩
def dkwX2_isUp_1 : List UInt8 := [184, 0, 173, 154, 0, 7, 4, 167, 0, 4, 3, 172]
abbrev dktX2_isUp_1 : List UInt8 := dkwX2_isUp_1 ++ []
def dkwX2_isUp_0 : List UInt8 := [42, 180, 0, 41, 16, 6, 27, 104, 28, 96, 46, 62, 29, 2, 159, 0, 18, 42, 180, 1, 95, 29]
abbrev dktX2_isUp_0 : List UInt8 := dkwX2_isUp_0 ++ dktX2_isUp_1
theorem dksX2_isUp_0 : cX2_isUp.data.toList.drop 0 = dktX2_isUp_0 := by decide +kernel
theorem dksX2_isUp_1 : cX2_isUp.data.toList.drop 22 = dktX2_isUp_1 := dk_seg dksX2_isUp_0 22 rfl rfl
theorem dX2_isUp_0 : decode cX2_isUp 0 = .ok (.aload_n 0, 1) := dk_42 (dk_at dksX2_isUp_0 0 rfl rfl)
theorem dX2_isUp_1 : decode cX2_isUp 1 = .ok (.getfield 41, 3) := dk_180 0 41 (dk_at dksX2_isUp_0 1 rfl rfl)
theorem dX2_isUp_4 : decode cX2_isUp 4 = .ok (.bipush 6, 2) := dk_16 6 (dk_at dksX2_isUp_0 4 rfl rfl)
theorem dX2_isUp_6 : decode cX2_isUp 6 = .ok (.iload_n 1, 1) := dk_27 (dk_at dksX2_isUp_0 6 rfl rfl)
theorem dX2_isUp_7 : decode cX2_isUp 7 = .ok (.imul, 1) := dk_104 (dk_at dksX2_isUp_0 7 rfl rfl)
theorem dX2_isUp_8 : decode cX2_isUp 8 = .ok (.iload_n 2, 1) := dk_28 (dk_at dksX2_isUp_0 8 rfl rfl)
theorem dX2_isUp_9 : decode cX2_isUp 9 = .ok (.iadd, 1) := dk_96 (dk_at dksX2_isUp_0 9 rfl rfl)
theorem dX2_isUp_10 : decode cX2_isUp 10 = .ok (.iaload, 1) := dk_46 (dk_at dksX2_isUp_0 10 rfl rfl)
theorem dX2_isUp_11 : decode cX2_isUp 11 = .ok (.istore_n 3, 1) := dk_62 (dk_at dksX2_isUp_0 11 rfl rfl)
theorem dX2_isUp_12 : decode cX2_isUp 12 = .ok (.iload_n 3, 1) := dk_29 (dk_at dksX2_isUp_0 12 rfl rfl)
theorem dX2_isUp_13 : decode cX2_isUp 13 = .ok (.iconst (-1), 1) := dk_2 (dk_at dksX2_isUp_0 13 rfl rfl)
theorem dX2_isUp_14 : decode cX2_isUp 14 = .ok (.if_icmp .eq 18, 3) := dk_159 0 18 (dk_at dksX2_isUp_0 14 rfl rfl)
theorem dX2_isUp_17 : decode cX2_isUp 17 = .ok (.aload_n 0, 1) := dk_42 (dk_at dksX2_isUp_0 17 rfl rfl)
theorem dX2_isUp_18 : decode cX2_isUp 18 = .ok (.getfield 351, 3) := dk_180 1 95 (dk_at dksX2_isUp_0 18 rfl rfl)
theorem dX2_isUp_21 : decode cX2_isUp 21 = .ok (.iload_n 3, 1) := dk_29 (dk_at dksX2_isUp_0 21 rfl rfl)
theorem dX2_isUp_22 : decode cX2_isUp 22 = .ok (.invokestatic 173, 3) := dk_184 0 173 (dk_at dksX2_isUp_1 0 rfl rfl)
theorem dX2_isUp_25 : decode cX2_isUp 25 = .ok (.ifCond .ne 7, 3) := dk_154 0 7 (dk_at dksX2_isUp_1 3 rfl rfl)
theorem dX2_isUp_28 : decode cX2_isUp 28 = .ok (.iconst 1, 1) := dk_4 (dk_at dksX2_isUp_1 6 rfl rfl)
theorem dX2_isUp_29 : decode cX2_isUp 29 = .ok (.goto 4, 3) := dk_167 0 4 (dk_at dksX2_isUp_1 7 rfl rfl)
theorem dX2_isUp_32 : decode cX2_isUp 32 = .ok (.iconst 0, 1) := dk_3 (dk_at dksX2_isUp_1 10 rfl rfl)
theorem dX2_isUp_33 : decode cX2_isUp 33 = .ok (.ireturn, 1) := dk_172 (dk_at dksX2_isUp_1 11 rfl rfl)
abbrev cX2_has : ByteArray := prog_25_method_4_code
def yX2_has : MethodName := ⟨RX2, "has", "(II)Z"⟩
def dkwX2_has_0 : List UInt8 := [26, 27, 122, 4, 126, 4, 160, 0, 7, 4, 167, 0, 4, 3, 172]
abbrev dktX2_has_0 : List UInt8 := dkwX2_has_0 ++ []
theorem dksX2_has_0 : cX2_has.data.toList.drop 0 = dktX2_has_0 := by decide +kernel
theorem dX2_has_0 : decode cX2_has 0 = .ok (.iload_n 0, 1) := dk_26 (dk_at dksX2_has_0 0 rfl rfl)
theorem dX2_has_1 : decode cX2_has 1 = .ok (.iload_n 1, 1) := dk_27 (dk_at dksX2_has_0 1 rfl rfl)
theorem dX2_has_2 : decode cX2_has 2 = .ok (.ishr, 1) := dk_122 (dk_at dksX2_has_0 2 rfl rfl)
theorem dX2_has_3 : decode cX2_has 3 = .ok (.iconst 1, 1) := dk_4 (dk_at dksX2_has_0 3 rfl rfl)
theorem dX2_has_4 : decode cX2_has 4 = .ok (.iand, 1) := dk_126 (dk_at dksX2_has_0 4 rfl rfl)
theorem dX2_has_5 : decode cX2_has 5 = .ok (.iconst 1, 1) := dk_4 (dk_at dksX2_has_0 5 rfl rfl)
theorem dX2_has_6 : decode cX2_has 6 = .ok (.if_icmp .ne 7, 3) := dk_160 0 7 (dk_at dksX2_has_0 6 rfl rfl)
theorem dX2_has_9 : decode cX2_has 9 = .ok (.iconst 1, 1) := dk_4 (dk_at dksX2_has_0 9 rfl rfl)
theorem dX2_has_10 : decode cX2_has 10 = .ok (.goto 4, 3) := dk_167 0 4 (dk_at dksX2_has_0 10 rfl rfl)
theorem dX2_has_13 : decode cX2_has 13 = .ok (.iconst 0, 1) := dk_3 (dk_at dksX2_has_0 13 rfl rfl)
theorem dX2_has_14 : decode cX2_has 14 = .ok (.ireturn, 1) := dk_172 (dk_at dksX2_has_0 14 rfl rfl)
abbrev cX2_fromStore : ByteArray := prog_25_method_72_code
def yX2_fromStore : MethodName := ⟨RX2, "fromStore", "(IIII)V"⟩
def dkwX2_fromStore_3 : List UInt8 := [182, 1, 213, 177]
abbrev dktX2_fromStore_3 : List UInt8 := dkwX2_fromStore_3 ++ []
def dkwX2_fromStore_2 : List UInt8 := [42, 180, 1, 158, 182, 1, 210, 42, 89, 180, 1, 137, 4, 96, 181, 1, 137, 42, 27, 29, 21, 4]
abbrev dktX2_fromStore_2 : List UInt8 := dkwX2_fromStore_2 ++ dktX2_fromStore_3
def dkwX2_fromStore_1 : List UInt8 := [21, 5, 46, 181, 1, 158, 42, 27, 181, 1, 161, 42, 4, 181, 1, 164, 42, 27, 21, 4, 42, 180, 1, 155]
abbrev dktX2_fromStore_1 : List UInt8 := dkwX2_fromStore_1 ++ dktX2_fromStore_2
def dkwX2_fromStore_0 : List UInt8 := [16, 6, 27, 104, 28, 96, 54, 5, 42, 42, 180, 0, 57, 21, 5, 46, 181, 1, 155, 42, 42, 180, 0, 60]
abbrev dktX2_fromStore_0 : List UInt8 := dkwX2_fromStore_0 ++ dktX2_fromStore_1
theorem dksX2_fromStore_0 : cX2_fromStore.data.toList.drop 0 = dktX2_fromStore_0 := by decide +kernel
theorem dksX2_fromStore_1 : cX2_fromStore.data.toList.drop 24 = dktX2_fromStore_1 := dk_seg dksX2_fromStore_0 24 rfl rfl
theorem dksX2_fromStore_2 : cX2_fromStore.data.toList.drop 48 = dktX2_fromStore_2 := dk_seg dksX2_fromStore_1 24 rfl rfl
theorem dksX2_fromStore_3 : cX2_fromStore.data.toList.drop 70 = dktX2_fromStore_3 := dk_seg dksX2_fromStore_2 22 rfl rfl
theorem dX2_fromStore_0 : decode cX2_fromStore 0 = .ok (.bipush 6, 2) := dk_16 6 (dk_at dksX2_fromStore_0 0 rfl rfl)
theorem dX2_fromStore_2 : decode cX2_fromStore 2 = .ok (.iload_n 1, 1) := dk_27 (dk_at dksX2_fromStore_0 2 rfl rfl)
theorem dX2_fromStore_3 : decode cX2_fromStore 3 = .ok (.imul, 1) := dk_104 (dk_at dksX2_fromStore_0 3 rfl rfl)
theorem dX2_fromStore_4 : decode cX2_fromStore 4 = .ok (.iload_n 2, 1) := dk_28 (dk_at dksX2_fromStore_0 4 rfl rfl)
theorem dX2_fromStore_5 : decode cX2_fromStore 5 = .ok (.iadd, 1) := dk_96 (dk_at dksX2_fromStore_0 5 rfl rfl)
theorem dX2_fromStore_6 : decode cX2_fromStore 6 = .ok (.istore 5, 2) := dk_54 5 (dk_at dksX2_fromStore_0 6 rfl rfl)
theorem dX2_fromStore_8 : decode cX2_fromStore 8 = .ok (.aload_n 0, 1) := dk_42 (dk_at dksX2_fromStore_0 8 rfl rfl)
theorem dX2_fromStore_9 : decode cX2_fromStore 9 = .ok (.aload_n 0, 1) := dk_42 (dk_at dksX2_fromStore_0 9 rfl rfl)
theorem dX2_fromStore_10 : decode cX2_fromStore 10 = .ok (.getfield 57, 3) := dk_180 0 57 (dk_at dksX2_fromStore_0 10 rfl rfl)
theorem dX2_fromStore_13 : decode cX2_fromStore 13 = .ok (.iload 5, 2) := dk_21 5 (dk_at dksX2_fromStore_0 13 rfl rfl)
theorem dX2_fromStore_15 : decode cX2_fromStore 15 = .ok (.iaload, 1) := dk_46 (dk_at dksX2_fromStore_0 15 rfl rfl)
theorem dX2_fromStore_16 : decode cX2_fromStore 16 = .ok (.putfield 411, 3) := dk_181 1 155 (dk_at dksX2_fromStore_0 16 rfl rfl)
theorem dX2_fromStore_19 : decode cX2_fromStore 19 = .ok (.aload_n 0, 1) := dk_42 (dk_at dksX2_fromStore_0 19 rfl rfl)
theorem dX2_fromStore_20 : decode cX2_fromStore 20 = .ok (.aload_n 0, 1) := dk_42 (dk_at dksX2_fromStore_0 20 rfl rfl)
theorem dX2_fromStore_21 : decode cX2_fromStore 21 = .ok (.getfield 60, 3) := dk_180 0 60 (dk_at dksX2_fromStore_0 21 rfl rfl)
theorem dX2_fromStore_24 : decode cX2_fromStore 24 = .ok (.iload 5, 2) := dk_21 5 (dk_at dksX2_fromStore_1 0 rfl rfl)
theorem dX2_fromStore_26 : decode cX2_fromStore 26 = .ok (.iaload, 1) := dk_46 (dk_at dksX2_fromStore_1 2 rfl rfl)
theorem dX2_fromStore_27 : decode cX2_fromStore 27 = .ok (.putfield 414, 3) := dk_181 1 158 (dk_at dksX2_fromStore_1 3 rfl rfl)
theorem dX2_fromStore_30 : decode cX2_fromStore 30 = .ok (.aload_n 0, 1) := dk_42 (dk_at dksX2_fromStore_1 6 rfl rfl)
theorem dX2_fromStore_31 : decode cX2_fromStore 31 = .ok (.iload_n 1, 1) := dk_27 (dk_at dksX2_fromStore_1 7 rfl rfl)
theorem dX2_fromStore_32 : decode cX2_fromStore 32 = .ok (.putfield 417, 3) := dk_181 1 161 (dk_at dksX2_fromStore_1 8 rfl rfl)
theorem dX2_fromStore_35 : decode cX2_fromStore 35 = .ok (.aload_n 0, 1) := dk_42 (dk_at dksX2_fromStore_1 11 rfl rfl)
theorem dX2_fromStore_36 : decode cX2_fromStore 36 = .ok (.iconst 1, 1) := dk_4 (dk_at dksX2_fromStore_1 12 rfl rfl)
theorem dX2_fromStore_37 : decode cX2_fromStore 37 = .ok (.putfield 420, 3) := dk_181 1 164 (dk_at dksX2_fromStore_1 13 rfl rfl)
theorem dX2_fromStore_40 : decode cX2_fromStore 40 = .ok (.aload_n 0, 1) := dk_42 (dk_at dksX2_fromStore_1 16 rfl rfl)
theorem dX2_fromStore_41 : decode cX2_fromStore 41 = .ok (.iload_n 1, 1) := dk_27 (dk_at dksX2_fromStore_1 17 rfl rfl)
theorem dX2_fromStore_42 : decode cX2_fromStore 42 = .ok (.iload 4, 2) := dk_21 4 (dk_at dksX2_fromStore_1 18 rfl rfl)
theorem dX2_fromStore_44 : decode cX2_fromStore 44 = .ok (.aload_n 0, 1) := dk_42 (dk_at dksX2_fromStore_1 20 rfl rfl)
theorem dX2_fromStore_45 : decode cX2_fromStore 45 = .ok (.getfield 411, 3) := dk_180 1 155 (dk_at dksX2_fromStore_1 21 rfl rfl)
theorem dX2_fromStore_48 : decode cX2_fromStore 48 = .ok (.aload_n 0, 1) := dk_42 (dk_at dksX2_fromStore_2 0 rfl rfl)
theorem dX2_fromStore_49 : decode cX2_fromStore 49 = .ok (.getfield 414, 3) := dk_180 1 158 (dk_at dksX2_fromStore_2 1 rfl rfl)
theorem dX2_fromStore_52 : decode cX2_fromStore 52 = .ok (.invokevirtual 466, 3) := dk_182 1 210 (dk_at dksX2_fromStore_2 4 rfl rfl)
theorem dX2_fromStore_55 : decode cX2_fromStore 55 = .ok (.aload_n 0, 1) := dk_42 (dk_at dksX2_fromStore_2 7 rfl rfl)
theorem dX2_fromStore_56 : decode cX2_fromStore 56 = .ok (.dup, 1) := dk_89 (dk_at dksX2_fromStore_2 8 rfl rfl)
theorem dX2_fromStore_57 : decode cX2_fromStore 57 = .ok (.getfield 393, 3) := dk_180 1 137 (dk_at dksX2_fromStore_2 9 rfl rfl)
theorem dX2_fromStore_60 : decode cX2_fromStore 60 = .ok (.iconst 1, 1) := dk_4 (dk_at dksX2_fromStore_2 12 rfl rfl)
theorem dX2_fromStore_61 : decode cX2_fromStore 61 = .ok (.iadd, 1) := dk_96 (dk_at dksX2_fromStore_2 13 rfl rfl)
theorem dX2_fromStore_62 : decode cX2_fromStore 62 = .ok (.putfield 393, 3) := dk_181 1 137 (dk_at dksX2_fromStore_2 14 rfl rfl)
theorem dX2_fromStore_65 : decode cX2_fromStore 65 = .ok (.aload_n 0, 1) := dk_42 (dk_at dksX2_fromStore_2 17 rfl rfl)
theorem dX2_fromStore_66 : decode cX2_fromStore 66 = .ok (.iload_n 1, 1) := dk_27 (dk_at dksX2_fromStore_2 18 rfl rfl)
theorem dX2_fromStore_67 : decode cX2_fromStore 67 = .ok (.iload_n 3, 1) := dk_29 (dk_at dksX2_fromStore_2 19 rfl rfl)
theorem dX2_fromStore_68 : decode cX2_fromStore 68 = .ok (.iload 4, 2) := dk_21 4 (dk_at dksX2_fromStore_2 20 rfl rfl)
theorem dX2_fromStore_70 : decode cX2_fromStore 70 = .ok (.invokevirtual 469, 3) := dk_182 1 213 (dk_at dksX2_fromStore_3 0 rfl rfl)
theorem dX2_fromStore_73 : decode cX2_fromStore 73 = .ok (.return_, 1) := dk_177 (dk_at dksX2_fromStore_3 3 rfl rfl)
abbrev cX2_putsLast : ByteArray := prog_25_method_64_code
def yX2_putsLast : MethodName := ⟨RX2, "putsLast", "(IIII)V"⟩
def dkwX2_putsLast_3 : List UInt8 := [180, 0, 51, 27, 46, 42, 8, 27, 96, 182, 1, 79, 164, 0, 9, 42, 27, 3, 182, 1, 183, 177]
abbrev dktX2_putsLast_3 : List UInt8 := dkwX2_putsLast_3 ++ []
def dkwX2_putsLast_2 : List UInt8 := [29, 79, 42, 180, 0, 60, 21, 6, 21, 4, 79, 42, 180, 0, 51, 27, 92, 46, 4, 96, 79, 42]
abbrev dktX2_putsLast_2 : List UInt8 := dkwX2_putsLast_2 ++ dktX2_putsLast_3
def dkwX2_putsLast_1 : List UInt8 := [104, 42, 180, 0, 51, 27, 46, 96, 54, 6, 42, 180, 0, 54, 21, 6, 28, 79, 42, 180, 0, 57, 21, 6]
abbrev dktX2_putsLast_1 : List UInt8 := dkwX2_putsLast_1 ++ dktX2_putsLast_2
def dkwX2_putsLast_0 : List UInt8 := [42, 27, 28, 182, 1, 180, 54, 5, 21, 5, 2, 159, 0, 10, 42, 27, 21, 5, 182, 1, 183, 16, 6, 27]
abbrev dktX2_putsLast_0 : List UInt8 := dkwX2_putsLast_0 ++ dktX2_putsLast_1
theorem dksX2_putsLast_0 : cX2_putsLast.data.toList.drop 0 = dktX2_putsLast_0 := by decide +kernel
theorem dksX2_putsLast_1 : cX2_putsLast.data.toList.drop 24 = dktX2_putsLast_1 := dk_seg dksX2_putsLast_0 24 rfl rfl
theorem dksX2_putsLast_2 : cX2_putsLast.data.toList.drop 48 = dktX2_putsLast_2 := dk_seg dksX2_putsLast_1 24 rfl rfl
theorem dksX2_putsLast_3 : cX2_putsLast.data.toList.drop 70 = dktX2_putsLast_3 := dk_seg dksX2_putsLast_2 22 rfl rfl
theorem dX2_putsLast_0 : decode cX2_putsLast 0 = .ok (.aload_n 0, 1) := dk_42 (dk_at dksX2_putsLast_0 0 rfl rfl)
theorem dX2_putsLast_1 : decode cX2_putsLast 1 = .ok (.iload_n 1, 1) := dk_27 (dk_at dksX2_putsLast_0 1 rfl rfl)
theorem dX2_putsLast_2 : decode cX2_putsLast 2 = .ok (.iload_n 2, 1) := dk_28 (dk_at dksX2_putsLast_0 2 rfl rfl)
theorem dX2_putsLast_3 : decode cX2_putsLast 3 = .ok (.invokevirtual 436, 3) := dk_182 1 180 (dk_at dksX2_putsLast_0 3 rfl rfl)
theorem dX2_putsLast_6 : decode cX2_putsLast 6 = .ok (.istore 5, 2) := dk_54 5 (dk_at dksX2_putsLast_0 6 rfl rfl)
theorem dX2_putsLast_8 : decode cX2_putsLast 8 = .ok (.iload 5, 2) := dk_21 5 (dk_at dksX2_putsLast_0 8 rfl rfl)
theorem dX2_putsLast_10 : decode cX2_putsLast 10 = .ok (.iconst (-1), 1) := dk_2 (dk_at dksX2_putsLast_0 10 rfl rfl)
theorem dX2_putsLast_11 : decode cX2_putsLast 11 = .ok (.if_icmp .eq 10, 3) := dk_159 0 10 (dk_at dksX2_putsLast_0 11 rfl rfl)
theorem dX2_putsLast_14 : decode cX2_putsLast 14 = .ok (.aload_n 0, 1) := dk_42 (dk_at dksX2_putsLast_0 14 rfl rfl)
theorem dX2_putsLast_15 : decode cX2_putsLast 15 = .ok (.iload_n 1, 1) := dk_27 (dk_at dksX2_putsLast_0 15 rfl rfl)
theorem dX2_putsLast_16 : decode cX2_putsLast 16 = .ok (.iload 5, 2) := dk_21 5 (dk_at dksX2_putsLast_0 16 rfl rfl)
theorem dX2_putsLast_18 : decode cX2_putsLast 18 = .ok (.invokevirtual 439, 3) := dk_182 1 183 (dk_at dksX2_putsLast_0 18 rfl rfl)
theorem dX2_putsLast_21 : decode cX2_putsLast 21 = .ok (.bipush 6, 2) := dk_16 6 (dk_at dksX2_putsLast_0 21 rfl rfl)
theorem dX2_putsLast_23 : decode cX2_putsLast 23 = .ok (.iload_n 1, 1) := dk_27 (dk_at dksX2_putsLast_0 23 rfl rfl)
theorem dX2_putsLast_24 : decode cX2_putsLast 24 = .ok (.imul, 1) := dk_104 (dk_at dksX2_putsLast_1 0 rfl rfl)
theorem dX2_putsLast_25 : decode cX2_putsLast 25 = .ok (.aload_n 0, 1) := dk_42 (dk_at dksX2_putsLast_1 1 rfl rfl)
theorem dX2_putsLast_26 : decode cX2_putsLast 26 = .ok (.getfield 51, 3) := dk_180 0 51 (dk_at dksX2_putsLast_1 2 rfl rfl)
theorem dX2_putsLast_29 : decode cX2_putsLast 29 = .ok (.iload_n 1, 1) := dk_27 (dk_at dksX2_putsLast_1 5 rfl rfl)
theorem dX2_putsLast_30 : decode cX2_putsLast 30 = .ok (.iaload, 1) := dk_46 (dk_at dksX2_putsLast_1 6 rfl rfl)
theorem dX2_putsLast_31 : decode cX2_putsLast 31 = .ok (.iadd, 1) := dk_96 (dk_at dksX2_putsLast_1 7 rfl rfl)
theorem dX2_putsLast_32 : decode cX2_putsLast 32 = .ok (.istore 6, 2) := dk_54 6 (dk_at dksX2_putsLast_1 8 rfl rfl)
theorem dX2_putsLast_34 : decode cX2_putsLast 34 = .ok (.aload_n 0, 1) := dk_42 (dk_at dksX2_putsLast_1 10 rfl rfl)
theorem dX2_putsLast_35 : decode cX2_putsLast 35 = .ok (.getfield 54, 3) := dk_180 0 54 (dk_at dksX2_putsLast_1 11 rfl rfl)
theorem dX2_putsLast_38 : decode cX2_putsLast 38 = .ok (.iload 6, 2) := dk_21 6 (dk_at dksX2_putsLast_1 14 rfl rfl)
theorem dX2_putsLast_40 : decode cX2_putsLast 40 = .ok (.iload_n 2, 1) := dk_28 (dk_at dksX2_putsLast_1 16 rfl rfl)
theorem dX2_putsLast_41 : decode cX2_putsLast 41 = .ok (.iastore, 1) := dk_79 (dk_at dksX2_putsLast_1 17 rfl rfl)
theorem dX2_putsLast_42 : decode cX2_putsLast 42 = .ok (.aload_n 0, 1) := dk_42 (dk_at dksX2_putsLast_1 18 rfl rfl)
theorem dX2_putsLast_43 : decode cX2_putsLast 43 = .ok (.getfield 57, 3) := dk_180 0 57 (dk_at dksX2_putsLast_1 19 rfl rfl)
theorem dX2_putsLast_46 : decode cX2_putsLast 46 = .ok (.iload 6, 2) := dk_21 6 (dk_at dksX2_putsLast_1 22 rfl rfl)
theorem dX2_putsLast_48 : decode cX2_putsLast 48 = .ok (.iload_n 3, 1) := dk_29 (dk_at dksX2_putsLast_2 0 rfl rfl)
theorem dX2_putsLast_49 : decode cX2_putsLast 49 = .ok (.iastore, 1) := dk_79 (dk_at dksX2_putsLast_2 1 rfl rfl)
theorem dX2_putsLast_50 : decode cX2_putsLast 50 = .ok (.aload_n 0, 1) := dk_42 (dk_at dksX2_putsLast_2 2 rfl rfl)
theorem dX2_putsLast_51 : decode cX2_putsLast 51 = .ok (.getfield 60, 3) := dk_180 0 60 (dk_at dksX2_putsLast_2 3 rfl rfl)
theorem dX2_putsLast_54 : decode cX2_putsLast 54 = .ok (.iload 6, 2) := dk_21 6 (dk_at dksX2_putsLast_2 6 rfl rfl)
theorem dX2_putsLast_56 : decode cX2_putsLast 56 = .ok (.iload 4, 2) := dk_21 4 (dk_at dksX2_putsLast_2 8 rfl rfl)
theorem dX2_putsLast_58 : decode cX2_putsLast 58 = .ok (.iastore, 1) := dk_79 (dk_at dksX2_putsLast_2 10 rfl rfl)
theorem dX2_putsLast_59 : decode cX2_putsLast 59 = .ok (.aload_n 0, 1) := dk_42 (dk_at dksX2_putsLast_2 11 rfl rfl)
theorem dX2_putsLast_60 : decode cX2_putsLast 60 = .ok (.getfield 51, 3) := dk_180 0 51 (dk_at dksX2_putsLast_2 12 rfl rfl)
theorem dX2_putsLast_63 : decode cX2_putsLast 63 = .ok (.iload_n 1, 1) := dk_27 (dk_at dksX2_putsLast_2 15 rfl rfl)
theorem dX2_putsLast_64 : decode cX2_putsLast 64 = .ok (.dup2, 1) := dk_92 (dk_at dksX2_putsLast_2 16 rfl rfl)
theorem dX2_putsLast_65 : decode cX2_putsLast 65 = .ok (.iaload, 1) := dk_46 (dk_at dksX2_putsLast_2 17 rfl rfl)
theorem dX2_putsLast_66 : decode cX2_putsLast 66 = .ok (.iconst 1, 1) := dk_4 (dk_at dksX2_putsLast_2 18 rfl rfl)
theorem dX2_putsLast_67 : decode cX2_putsLast 67 = .ok (.iadd, 1) := dk_96 (dk_at dksX2_putsLast_2 19 rfl rfl)
theorem dX2_putsLast_68 : decode cX2_putsLast 68 = .ok (.iastore, 1) := dk_79 (dk_at dksX2_putsLast_2 20 rfl rfl)
theorem dX2_putsLast_69 : decode cX2_putsLast 69 = .ok (.aload_n 0, 1) := dk_42 (dk_at dksX2_putsLast_2 21 rfl rfl)
theorem dX2_putsLast_70 : decode cX2_putsLast 70 = .ok (.getfield 51, 3) := dk_180 0 51 (dk_at dksX2_putsLast_3 0 rfl rfl)
theorem dX2_putsLast_73 : decode cX2_putsLast 73 = .ok (.iload_n 1, 1) := dk_27 (dk_at dksX2_putsLast_3 3 rfl rfl)
theorem dX2_putsLast_74 : decode cX2_putsLast 74 = .ok (.iaload, 1) := dk_46 (dk_at dksX2_putsLast_3 4 rfl rfl)
theorem dX2_putsLast_75 : decode cX2_putsLast 75 = .ok (.aload_n 0, 1) := dk_42 (dk_at dksX2_putsLast_3 5 rfl rfl)
theorem dX2_putsLast_76 : decode cX2_putsLast 76 = .ok (.iconst 5, 1) := dk_8 (dk_at dksX2_putsLast_3 6 rfl rfl)
theorem dX2_putsLast_77 : decode cX2_putsLast 77 = .ok (.iload_n 1, 1) := dk_27 (dk_at dksX2_putsLast_3 7 rfl rfl)
theorem dX2_putsLast_78 : decode cX2_putsLast 78 = .ok (.iadd, 1) := dk_96 (dk_at dksX2_putsLast_3 8 rfl rfl)
theorem dX2_putsLast_79 : decode cX2_putsLast 79 = .ok (.invokevirtual 335, 3) := dk_182 1 79 (dk_at dksX2_putsLast_3 9 rfl rfl)
theorem dX2_putsLast_82 : decode cX2_putsLast 82 = .ok (.if_icmp .le 9, 3) := dk_164 0 9 (dk_at dksX2_putsLast_3 12 rfl rfl)
theorem dX2_putsLast_85 : decode cX2_putsLast 85 = .ok (.aload_n 0, 1) := dk_42 (dk_at dksX2_putsLast_3 15 rfl rfl)
theorem dX2_putsLast_86 : decode cX2_putsLast 86 = .ok (.iload_n 1, 1) := dk_27 (dk_at dksX2_putsLast_3 16 rfl rfl)
theorem dX2_putsLast_87 : decode cX2_putsLast 87 = .ok (.iconst 0, 1) := dk_3 (dk_at dksX2_putsLast_3 17 rfl rfl)
theorem dX2_putsLast_88 : decode cX2_putsLast 88 = .ok (.invokevirtual 439, 3) := dk_182 1 183 (dk_at dksX2_putsLast_3 18 rfl rfl)
theorem dX2_putsLast_91 : decode cX2_putsLast 91 = .ok (.return_, 1) := dk_177 (dk_at dksX2_putsLast_3 21 rfl rfl)
abbrev cX2_takesOut : ByteArray := prog_25_method_63_code
def yX2_takesOut : MethodName := ⟨RX2, "takesOut", "(II)V"⟩
def dkwX2_takesOut_4 : List UInt8 := [132, 3, 1, 167, 255, 171, 177]
abbrev dktX2_takesOut_4 : List UInt8 := dkwX2_takesOut_4 ++ []
def dkwX2_takesOut_3 : List UInt8 := [180, 0, 60, 16, 6, 27, 104, 29, 96, 42, 180, 0, 60, 16, 6, 27, 104, 29, 96, 4, 96, 46, 79]
abbrev dktX2_takesOut_3 : List UInt8 := dkwX2_takesOut_3 ++ dktX2_takesOut_4
def dkwX2_takesOut_2 : List UInt8 := [180, 0, 57, 16, 6, 27, 104, 29, 96, 42, 180, 0, 57, 16, 6, 27, 104, 29, 96, 4, 96, 46, 79, 42]
abbrev dktX2_takesOut_2 : List UInt8 := dkwX2_takesOut_2 ++ dktX2_takesOut_3
def dkwX2_takesOut_1 : List UInt8 := [180, 0, 54, 16, 6, 27, 104, 29, 96, 42, 180, 0, 54, 16, 6, 27, 104, 29, 96, 4, 96, 46, 79, 42]
abbrev dktX2_takesOut_1 : List UInt8 := dkwX2_takesOut_1 ++ dktX2_takesOut_2
def dkwX2_takesOut_0 : List UInt8 := [42, 180, 0, 51, 27, 92, 46, 4, 100, 79, 28, 62, 29, 42, 180, 0, 51, 27, 46, 162, 0, 81, 42]
abbrev dktX2_takesOut_0 : List UInt8 := dkwX2_takesOut_0 ++ dktX2_takesOut_1
theorem dksX2_takesOut_0 : cX2_takesOut.data.toList.drop 0 = dktX2_takesOut_0 := by decide +kernel
theorem dksX2_takesOut_1 : cX2_takesOut.data.toList.drop 23 = dktX2_takesOut_1 := dk_seg dksX2_takesOut_0 23 rfl rfl
theorem dksX2_takesOut_2 : cX2_takesOut.data.toList.drop 47 = dktX2_takesOut_2 := dk_seg dksX2_takesOut_1 24 rfl rfl
theorem dksX2_takesOut_3 : cX2_takesOut.data.toList.drop 71 = dktX2_takesOut_3 := dk_seg dksX2_takesOut_2 24 rfl rfl
theorem dksX2_takesOut_4 : cX2_takesOut.data.toList.drop 94 = dktX2_takesOut_4 := dk_seg dksX2_takesOut_3 23 rfl rfl
theorem dX2_takesOut_0 : decode cX2_takesOut 0 = .ok (.aload_n 0, 1) := dk_42 (dk_at dksX2_takesOut_0 0 rfl rfl)
theorem dX2_takesOut_1 : decode cX2_takesOut 1 = .ok (.getfield 51, 3) := dk_180 0 51 (dk_at dksX2_takesOut_0 1 rfl rfl)
theorem dX2_takesOut_4 : decode cX2_takesOut 4 = .ok (.iload_n 1, 1) := dk_27 (dk_at dksX2_takesOut_0 4 rfl rfl)
theorem dX2_takesOut_5 : decode cX2_takesOut 5 = .ok (.dup2, 1) := dk_92 (dk_at dksX2_takesOut_0 5 rfl rfl)
theorem dX2_takesOut_6 : decode cX2_takesOut 6 = .ok (.iaload, 1) := dk_46 (dk_at dksX2_takesOut_0 6 rfl rfl)
theorem dX2_takesOut_7 : decode cX2_takesOut 7 = .ok (.iconst 1, 1) := dk_4 (dk_at dksX2_takesOut_0 7 rfl rfl)
theorem dX2_takesOut_8 : decode cX2_takesOut 8 = .ok (.isub, 1) := dk_100 (dk_at dksX2_takesOut_0 8 rfl rfl)
theorem dX2_takesOut_9 : decode cX2_takesOut 9 = .ok (.iastore, 1) := dk_79 (dk_at dksX2_takesOut_0 9 rfl rfl)
theorem dX2_takesOut_10 : decode cX2_takesOut 10 = .ok (.iload_n 2, 1) := dk_28 (dk_at dksX2_takesOut_0 10 rfl rfl)
theorem dX2_takesOut_11 : decode cX2_takesOut 11 = .ok (.istore_n 3, 1) := dk_62 (dk_at dksX2_takesOut_0 11 rfl rfl)
theorem dX2_takesOut_12 : decode cX2_takesOut 12 = .ok (.iload_n 3, 1) := dk_29 (dk_at dksX2_takesOut_0 12 rfl rfl)
theorem dX2_takesOut_13 : decode cX2_takesOut 13 = .ok (.aload_n 0, 1) := dk_42 (dk_at dksX2_takesOut_0 13 rfl rfl)
theorem dX2_takesOut_14 : decode cX2_takesOut 14 = .ok (.getfield 51, 3) := dk_180 0 51 (dk_at dksX2_takesOut_0 14 rfl rfl)
theorem dX2_takesOut_17 : decode cX2_takesOut 17 = .ok (.iload_n 1, 1) := dk_27 (dk_at dksX2_takesOut_0 17 rfl rfl)
theorem dX2_takesOut_18 : decode cX2_takesOut 18 = .ok (.iaload, 1) := dk_46 (dk_at dksX2_takesOut_0 18 rfl rfl)
theorem dX2_takesOut_19 : decode cX2_takesOut 19 = .ok (.if_icmp .ge 81, 3) := dk_162 0 81 (dk_at dksX2_takesOut_0 19 rfl rfl)
theorem dX2_takesOut_22 : decode cX2_takesOut 22 = .ok (.aload_n 0, 1) := dk_42 (dk_at dksX2_takesOut_0 22 rfl rfl)
theorem dX2_takesOut_23 : decode cX2_takesOut 23 = .ok (.getfield 54, 3) := dk_180 0 54 (dk_at dksX2_takesOut_1 0 rfl rfl)
theorem dX2_takesOut_26 : decode cX2_takesOut 26 = .ok (.bipush 6, 2) := dk_16 6 (dk_at dksX2_takesOut_1 3 rfl rfl)
theorem dX2_takesOut_28 : decode cX2_takesOut 28 = .ok (.iload_n 1, 1) := dk_27 (dk_at dksX2_takesOut_1 5 rfl rfl)
theorem dX2_takesOut_29 : decode cX2_takesOut 29 = .ok (.imul, 1) := dk_104 (dk_at dksX2_takesOut_1 6 rfl rfl)
theorem dX2_takesOut_30 : decode cX2_takesOut 30 = .ok (.iload_n 3, 1) := dk_29 (dk_at dksX2_takesOut_1 7 rfl rfl)
theorem dX2_takesOut_31 : decode cX2_takesOut 31 = .ok (.iadd, 1) := dk_96 (dk_at dksX2_takesOut_1 8 rfl rfl)
theorem dX2_takesOut_32 : decode cX2_takesOut 32 = .ok (.aload_n 0, 1) := dk_42 (dk_at dksX2_takesOut_1 9 rfl rfl)
theorem dX2_takesOut_33 : decode cX2_takesOut 33 = .ok (.getfield 54, 3) := dk_180 0 54 (dk_at dksX2_takesOut_1 10 rfl rfl)
theorem dX2_takesOut_36 : decode cX2_takesOut 36 = .ok (.bipush 6, 2) := dk_16 6 (dk_at dksX2_takesOut_1 13 rfl rfl)
theorem dX2_takesOut_38 : decode cX2_takesOut 38 = .ok (.iload_n 1, 1) := dk_27 (dk_at dksX2_takesOut_1 15 rfl rfl)
theorem dX2_takesOut_39 : decode cX2_takesOut 39 = .ok (.imul, 1) := dk_104 (dk_at dksX2_takesOut_1 16 rfl rfl)
theorem dX2_takesOut_40 : decode cX2_takesOut 40 = .ok (.iload_n 3, 1) := dk_29 (dk_at dksX2_takesOut_1 17 rfl rfl)
theorem dX2_takesOut_41 : decode cX2_takesOut 41 = .ok (.iadd, 1) := dk_96 (dk_at dksX2_takesOut_1 18 rfl rfl)
theorem dX2_takesOut_42 : decode cX2_takesOut 42 = .ok (.iconst 1, 1) := dk_4 (dk_at dksX2_takesOut_1 19 rfl rfl)
theorem dX2_takesOut_43 : decode cX2_takesOut 43 = .ok (.iadd, 1) := dk_96 (dk_at dksX2_takesOut_1 20 rfl rfl)
theorem dX2_takesOut_44 : decode cX2_takesOut 44 = .ok (.iaload, 1) := dk_46 (dk_at dksX2_takesOut_1 21 rfl rfl)
theorem dX2_takesOut_45 : decode cX2_takesOut 45 = .ok (.iastore, 1) := dk_79 (dk_at dksX2_takesOut_1 22 rfl rfl)
theorem dX2_takesOut_46 : decode cX2_takesOut 46 = .ok (.aload_n 0, 1) := dk_42 (dk_at dksX2_takesOut_1 23 rfl rfl)
theorem dX2_takesOut_47 : decode cX2_takesOut 47 = .ok (.getfield 57, 3) := dk_180 0 57 (dk_at dksX2_takesOut_2 0 rfl rfl)
theorem dX2_takesOut_50 : decode cX2_takesOut 50 = .ok (.bipush 6, 2) := dk_16 6 (dk_at dksX2_takesOut_2 3 rfl rfl)
theorem dX2_takesOut_52 : decode cX2_takesOut 52 = .ok (.iload_n 1, 1) := dk_27 (dk_at dksX2_takesOut_2 5 rfl rfl)
theorem dX2_takesOut_53 : decode cX2_takesOut 53 = .ok (.imul, 1) := dk_104 (dk_at dksX2_takesOut_2 6 rfl rfl)
theorem dX2_takesOut_54 : decode cX2_takesOut 54 = .ok (.iload_n 3, 1) := dk_29 (dk_at dksX2_takesOut_2 7 rfl rfl)
theorem dX2_takesOut_55 : decode cX2_takesOut 55 = .ok (.iadd, 1) := dk_96 (dk_at dksX2_takesOut_2 8 rfl rfl)
theorem dX2_takesOut_56 : decode cX2_takesOut 56 = .ok (.aload_n 0, 1) := dk_42 (dk_at dksX2_takesOut_2 9 rfl rfl)
theorem dX2_takesOut_57 : decode cX2_takesOut 57 = .ok (.getfield 57, 3) := dk_180 0 57 (dk_at dksX2_takesOut_2 10 rfl rfl)
theorem dX2_takesOut_60 : decode cX2_takesOut 60 = .ok (.bipush 6, 2) := dk_16 6 (dk_at dksX2_takesOut_2 13 rfl rfl)
theorem dX2_takesOut_62 : decode cX2_takesOut 62 = .ok (.iload_n 1, 1) := dk_27 (dk_at dksX2_takesOut_2 15 rfl rfl)
theorem dX2_takesOut_63 : decode cX2_takesOut 63 = .ok (.imul, 1) := dk_104 (dk_at dksX2_takesOut_2 16 rfl rfl)
theorem dX2_takesOut_64 : decode cX2_takesOut 64 = .ok (.iload_n 3, 1) := dk_29 (dk_at dksX2_takesOut_2 17 rfl rfl)
theorem dX2_takesOut_65 : decode cX2_takesOut 65 = .ok (.iadd, 1) := dk_96 (dk_at dksX2_takesOut_2 18 rfl rfl)
theorem dX2_takesOut_66 : decode cX2_takesOut 66 = .ok (.iconst 1, 1) := dk_4 (dk_at dksX2_takesOut_2 19 rfl rfl)
theorem dX2_takesOut_67 : decode cX2_takesOut 67 = .ok (.iadd, 1) := dk_96 (dk_at dksX2_takesOut_2 20 rfl rfl)
theorem dX2_takesOut_68 : decode cX2_takesOut 68 = .ok (.iaload, 1) := dk_46 (dk_at dksX2_takesOut_2 21 rfl rfl)
theorem dX2_takesOut_69 : decode cX2_takesOut 69 = .ok (.iastore, 1) := dk_79 (dk_at dksX2_takesOut_2 22 rfl rfl)
theorem dX2_takesOut_70 : decode cX2_takesOut 70 = .ok (.aload_n 0, 1) := dk_42 (dk_at dksX2_takesOut_2 23 rfl rfl)
theorem dX2_takesOut_71 : decode cX2_takesOut 71 = .ok (.getfield 60, 3) := dk_180 0 60 (dk_at dksX2_takesOut_3 0 rfl rfl)
theorem dX2_takesOut_74 : decode cX2_takesOut 74 = .ok (.bipush 6, 2) := dk_16 6 (dk_at dksX2_takesOut_3 3 rfl rfl)
theorem dX2_takesOut_76 : decode cX2_takesOut 76 = .ok (.iload_n 1, 1) := dk_27 (dk_at dksX2_takesOut_3 5 rfl rfl)
theorem dX2_takesOut_77 : decode cX2_takesOut 77 = .ok (.imul, 1) := dk_104 (dk_at dksX2_takesOut_3 6 rfl rfl)
theorem dX2_takesOut_78 : decode cX2_takesOut 78 = .ok (.iload_n 3, 1) := dk_29 (dk_at dksX2_takesOut_3 7 rfl rfl)
theorem dX2_takesOut_79 : decode cX2_takesOut 79 = .ok (.iadd, 1) := dk_96 (dk_at dksX2_takesOut_3 8 rfl rfl)
theorem dX2_takesOut_80 : decode cX2_takesOut 80 = .ok (.aload_n 0, 1) := dk_42 (dk_at dksX2_takesOut_3 9 rfl rfl)
theorem dX2_takesOut_81 : decode cX2_takesOut 81 = .ok (.getfield 60, 3) := dk_180 0 60 (dk_at dksX2_takesOut_3 10 rfl rfl)
theorem dX2_takesOut_84 : decode cX2_takesOut 84 = .ok (.bipush 6, 2) := dk_16 6 (dk_at dksX2_takesOut_3 13 rfl rfl)
theorem dX2_takesOut_86 : decode cX2_takesOut 86 = .ok (.iload_n 1, 1) := dk_27 (dk_at dksX2_takesOut_3 15 rfl rfl)
theorem dX2_takesOut_87 : decode cX2_takesOut 87 = .ok (.imul, 1) := dk_104 (dk_at dksX2_takesOut_3 16 rfl rfl)
theorem dX2_takesOut_88 : decode cX2_takesOut 88 = .ok (.iload_n 3, 1) := dk_29 (dk_at dksX2_takesOut_3 17 rfl rfl)
theorem dX2_takesOut_89 : decode cX2_takesOut 89 = .ok (.iadd, 1) := dk_96 (dk_at dksX2_takesOut_3 18 rfl rfl)
theorem dX2_takesOut_90 : decode cX2_takesOut 90 = .ok (.iconst 1, 1) := dk_4 (dk_at dksX2_takesOut_3 19 rfl rfl)
theorem dX2_takesOut_91 : decode cX2_takesOut 91 = .ok (.iadd, 1) := dk_96 (dk_at dksX2_takesOut_3 20 rfl rfl)
theorem dX2_takesOut_92 : decode cX2_takesOut 92 = .ok (.iaload, 1) := dk_46 (dk_at dksX2_takesOut_3 21 rfl rfl)
theorem dX2_takesOut_93 : decode cX2_takesOut 93 = .ok (.iastore, 1) := dk_79 (dk_at dksX2_takesOut_3 22 rfl rfl)
theorem dX2_takesOut_94 : decode cX2_takesOut 94 = .ok (.iinc 3 1, 3) := dk_132 3 1 (dk_at dksX2_takesOut_4 0 rfl rfl)
theorem dX2_takesOut_97 : decode cX2_takesOut 97 = .ok (.goto (-85), 3) := dk_167 255 171 (dk_at dksX2_takesOut_4 3 rfl rfl)
theorem dX2_takesOut_100 : decode cX2_takesOut 100 = .ok (.return_, 1) := dk_177 (dk_at dksX2_takesOut_4 6 rfl rfl)
abbrev cX2_dataTo : ByteArray := prog_25_method_59_code
def yX2_dataTo : MethodName := ⟨RX2, "dataTo", "(III)V"⟩
def dkwX2_dataTo_1 : List UInt8 := [182, 1, 170, 177]
abbrev dktX2_dataTo_1 : List UInt8 := dkwX2_dataTo_1 ++ []
def dkwX2_dataTo_0 : List UInt8 := [28, 16, 100, 161, 0, 14, 42, 28, 16, 100, 100, 182, 1, 167, 167, 0, 13, 42, 4, 27, 28, 29, 3, 3]
abbrev dktX2_dataTo_0 : List UInt8 := dkwX2_dataTo_0 ++ dktX2_dataTo_1
theorem dksX2_dataTo_0 : cX2_dataTo.data.toList.drop 0 = dktX2_dataTo_0 := by decide +kernel
theorem dksX2_dataTo_1 : cX2_dataTo.data.toList.drop 24 = dktX2_dataTo_1 := dk_seg dksX2_dataTo_0 24 rfl rfl
theorem dX2_dataTo_0 : decode cX2_dataTo 0 = .ok (.iload_n 2, 1) := dk_28 (dk_at dksX2_dataTo_0 0 rfl rfl)
theorem dX2_dataTo_1 : decode cX2_dataTo 1 = .ok (.bipush 100, 2) := dk_16 100 (dk_at dksX2_dataTo_0 1 rfl rfl)
theorem dX2_dataTo_3 : decode cX2_dataTo 3 = .ok (.if_icmp .lt 14, 3) := dk_161 0 14 (dk_at dksX2_dataTo_0 3 rfl rfl)
theorem dX2_dataTo_6 : decode cX2_dataTo 6 = .ok (.aload_n 0, 1) := dk_42 (dk_at dksX2_dataTo_0 6 rfl rfl)
theorem dX2_dataTo_7 : decode cX2_dataTo 7 = .ok (.iload_n 2, 1) := dk_28 (dk_at dksX2_dataTo_0 7 rfl rfl)
theorem dX2_dataTo_8 : decode cX2_dataTo 8 = .ok (.bipush 100, 2) := dk_16 100 (dk_at dksX2_dataTo_0 8 rfl rfl)
theorem dX2_dataTo_10 : decode cX2_dataTo 10 = .ok (.isub, 1) := dk_100 (dk_at dksX2_dataTo_0 10 rfl rfl)
theorem dX2_dataTo_11 : decode cX2_dataTo 11 = .ok (.invokevirtual 423, 3) := dk_182 1 167 (dk_at dksX2_dataTo_0 11 rfl rfl)
theorem dX2_dataTo_14 : decode cX2_dataTo 14 = .ok (.goto 13, 3) := dk_167 0 13 (dk_at dksX2_dataTo_0 14 rfl rfl)
theorem dX2_dataTo_17 : decode cX2_dataTo 17 = .ok (.aload_n 0, 1) := dk_42 (dk_at dksX2_dataTo_0 17 rfl rfl)
theorem dX2_dataTo_18 : decode cX2_dataTo 18 = .ok (.iconst 1, 1) := dk_4 (dk_at dksX2_dataTo_0 18 rfl rfl)
theorem dX2_dataTo_19 : decode cX2_dataTo 19 = .ok (.iload_n 1, 1) := dk_27 (dk_at dksX2_dataTo_0 19 rfl rfl)
theorem dX2_dataTo_20 : decode cX2_dataTo 20 = .ok (.iload_n 2, 1) := dk_28 (dk_at dksX2_dataTo_0 20 rfl rfl)
theorem dX2_dataTo_21 : decode cX2_dataTo 21 = .ok (.iload_n 3, 1) := dk_29 (dk_at dksX2_dataTo_0 21 rfl rfl)
theorem dX2_dataTo_22 : decode cX2_dataTo 22 = .ok (.iconst 0, 1) := dk_3 (dk_at dksX2_dataTo_0 22 rfl rfl)
theorem dX2_dataTo_23 : decode cX2_dataTo 23 = .ok (.iconst 0, 1) := dk_3 (dk_at dksX2_dataTo_0 23 rfl rfl)
theorem dX2_dataTo_24 : decode cX2_dataTo 24 = .ok (.invokevirtual 426, 3) := dk_182 1 170 (dk_at dksX2_dataTo_1 0 rfl rfl)
theorem dX2_dataTo_27 : decode cX2_dataTo 27 = .ok (.return_, 1) := dk_177 (dk_at dksX2_dataTo_1 3 rfl rfl)
abbrev cX2_gets : ByteArray := prog_25_method_57_code
def yX2_gets : MethodName := ⟨RX2, "gets", "(I)V"⟩
def dkwX2_gets_1 : List UInt8 := [180, 1, 161, 79, 42, 180, 0, 141, 27, 42, 180, 1, 164, 79, 177]
abbrev dktX2_gets_1 : List UInt8 := dkwX2_gets_1 ++ []
def dkwX2_gets_0 : List UInt8 := [42, 180, 0, 129, 27, 4, 79, 42, 180, 0, 132, 27, 42, 180, 1, 128, 79, 42, 180, 0, 138, 27, 42]
abbrev dktX2_gets_0 : List UInt8 := dkwX2_gets_0 ++ dktX2_gets_1
theorem dksX2_gets_0 : cX2_gets.data.toList.drop 0 = dktX2_gets_0 := by decide +kernel
theorem dksX2_gets_1 : cX2_gets.data.toList.drop 23 = dktX2_gets_1 := dk_seg dksX2_gets_0 23 rfl rfl
theorem dX2_gets_0 : decode cX2_gets 0 = .ok (.aload_n 0, 1) := dk_42 (dk_at dksX2_gets_0 0 rfl rfl)
theorem dX2_gets_1 : decode cX2_gets 1 = .ok (.getfield 129, 3) := dk_180 0 129 (dk_at dksX2_gets_0 1 rfl rfl)
theorem dX2_gets_4 : decode cX2_gets 4 = .ok (.iload_n 1, 1) := dk_27 (dk_at dksX2_gets_0 4 rfl rfl)
theorem dX2_gets_5 : decode cX2_gets 5 = .ok (.iconst 1, 1) := dk_4 (dk_at dksX2_gets_0 5 rfl rfl)
theorem dX2_gets_6 : decode cX2_gets 6 = .ok (.iastore, 1) := dk_79 (dk_at dksX2_gets_0 6 rfl rfl)
theorem dX2_gets_7 : decode cX2_gets 7 = .ok (.aload_n 0, 1) := dk_42 (dk_at dksX2_gets_0 7 rfl rfl)
theorem dX2_gets_8 : decode cX2_gets 8 = .ok (.getfield 132, 3) := dk_180 0 132 (dk_at dksX2_gets_0 8 rfl rfl)
theorem dX2_gets_11 : decode cX2_gets 11 = .ok (.iload_n 1, 1) := dk_27 (dk_at dksX2_gets_0 11 rfl rfl)
theorem dX2_gets_12 : decode cX2_gets 12 = .ok (.aload_n 0, 1) := dk_42 (dk_at dksX2_gets_0 12 rfl rfl)
theorem dX2_gets_13 : decode cX2_gets 13 = .ok (.getfield 384, 3) := dk_180 1 128 (dk_at dksX2_gets_0 13 rfl rfl)
theorem dX2_gets_16 : decode cX2_gets 16 = .ok (.iastore, 1) := dk_79 (dk_at dksX2_gets_0 16 rfl rfl)
theorem dX2_gets_17 : decode cX2_gets 17 = .ok (.aload_n 0, 1) := dk_42 (dk_at dksX2_gets_0 17 rfl rfl)
theorem dX2_gets_18 : decode cX2_gets 18 = .ok (.getfield 138, 3) := dk_180 0 138 (dk_at dksX2_gets_0 18 rfl rfl)
theorem dX2_gets_21 : decode cX2_gets 21 = .ok (.iload_n 1, 1) := dk_27 (dk_at dksX2_gets_0 21 rfl rfl)
theorem dX2_gets_22 : decode cX2_gets 22 = .ok (.aload_n 0, 1) := dk_42 (dk_at dksX2_gets_0 22 rfl rfl)
theorem dX2_gets_23 : decode cX2_gets 23 = .ok (.getfield 417, 3) := dk_180 1 161 (dk_at dksX2_gets_1 0 rfl rfl)
theorem dX2_gets_26 : decode cX2_gets 26 = .ok (.iastore, 1) := dk_79 (dk_at dksX2_gets_1 3 rfl rfl)
theorem dX2_gets_27 : decode cX2_gets 27 = .ok (.aload_n 0, 1) := dk_42 (dk_at dksX2_gets_1 4 rfl rfl)
theorem dX2_gets_28 : decode cX2_gets 28 = .ok (.getfield 141, 3) := dk_180 0 141 (dk_at dksX2_gets_1 5 rfl rfl)
theorem dX2_gets_31 : decode cX2_gets 31 = .ok (.iload_n 1, 1) := dk_27 (dk_at dksX2_gets_1 8 rfl rfl)
theorem dX2_gets_32 : decode cX2_gets 32 = .ok (.aload_n 0, 1) := dk_42 (dk_at dksX2_gets_1 9 rfl rfl)
theorem dX2_gets_33 : decode cX2_gets 33 = .ok (.getfield 420, 3) := dk_180 1 164 (dk_at dksX2_gets_1 10 rfl rfl)
theorem dX2_gets_36 : decode cX2_gets 36 = .ok (.iastore, 1) := dk_79 (dk_at dksX2_gets_1 13 rfl rfl)
theorem dX2_gets_37 : decode cX2_gets 37 = .ok (.return_, 1) := dk_177 (dk_at dksX2_gets_1 14 rfl rfl)
abbrev cX2_serveFor : ByteArray := prog_25_method_52_code
def yX2_serveFor : MethodName := ⟨RX2, "serveFor", "(II)I"⟩
def dkwX2_serveFor_3 : List UInt8 := [182, 1, 113, 184, 1, 98, 164, 0, 8, 21, 4, 167, 0, 4, 29, 62, 132, 4, 1, 167, 255, 173, 29, 172]
abbrev dktX2_serveFor_3 : List UInt8 := dkwX2_serveFor_3 ++ []
def dkwX2_serveFor_2 : List UInt8 := [21, 5, 153, 0, 35, 29, 2, 159, 0, 25, 42, 21, 4, 4, 182, 1, 113, 184, 1, 98, 42, 29, 4]
abbrev dktX2_serveFor_2 : List UInt8 := dkwX2_serveFor_2 ++ dktX2_serveFor_3
def dkwX2_serveFor_1 : List UInt8 := [160, 0, 21, 42, 21, 4, 4, 182, 1, 113, 28, 184, 1, 107, 153, 0, 7, 4, 167, 0, 4, 3, 54, 5]
abbrev dktX2_serveFor_1 : List UInt8 := dkwX2_serveFor_1 ++ dktX2_serveFor_2
def dkwX2_serveFor_0 : List UInt8 := [2, 62, 3, 54, 4, 21, 4, 42, 182, 1, 110, 162, 0, 80, 42, 21, 4, 3, 182, 1, 113, 27]
abbrev dktX2_serveFor_0 : List UInt8 := dkwX2_serveFor_0 ++ dktX2_serveFor_1
theorem dksX2_serveFor_0 : cX2_serveFor.data.toList.drop 0 = dktX2_serveFor_0 := by decide +kernel
theorem dksX2_serveFor_1 : cX2_serveFor.data.toList.drop 22 = dktX2_serveFor_1 := dk_seg dksX2_serveFor_0 22 rfl rfl
theorem dksX2_serveFor_2 : cX2_serveFor.data.toList.drop 46 = dktX2_serveFor_2 := dk_seg dksX2_serveFor_1 24 rfl rfl
theorem dksX2_serveFor_3 : cX2_serveFor.data.toList.drop 69 = dktX2_serveFor_3 := dk_seg dksX2_serveFor_2 23 rfl rfl
theorem dX2_serveFor_0 : decode cX2_serveFor 0 = .ok (.iconst (-1), 1) := dk_2 (dk_at dksX2_serveFor_0 0 rfl rfl)
theorem dX2_serveFor_1 : decode cX2_serveFor 1 = .ok (.istore_n 3, 1) := dk_62 (dk_at dksX2_serveFor_0 1 rfl rfl)
theorem dX2_serveFor_2 : decode cX2_serveFor 2 = .ok (.iconst 0, 1) := dk_3 (dk_at dksX2_serveFor_0 2 rfl rfl)
theorem dX2_serveFor_3 : decode cX2_serveFor 3 = .ok (.istore 4, 2) := dk_54 4 (dk_at dksX2_serveFor_0 3 rfl rfl)
theorem dX2_serveFor_5 : decode cX2_serveFor 5 = .ok (.iload 4, 2) := dk_21 4 (dk_at dksX2_serveFor_0 5 rfl rfl)
theorem dX2_serveFor_7 : decode cX2_serveFor 7 = .ok (.aload_n 0, 1) := dk_42 (dk_at dksX2_serveFor_0 7 rfl rfl)
theorem dX2_serveFor_8 : decode cX2_serveFor 8 = .ok (.invokevirtual 366, 3) := dk_182 1 110 (dk_at dksX2_serveFor_0 8 rfl rfl)
theorem dX2_serveFor_11 : decode cX2_serveFor 11 = .ok (.if_icmp .ge 80, 3) := dk_162 0 80 (dk_at dksX2_serveFor_0 11 rfl rfl)
theorem dX2_serveFor_14 : decode cX2_serveFor 14 = .ok (.aload_n 0, 1) := dk_42 (dk_at dksX2_serveFor_0 14 rfl rfl)
theorem dX2_serveFor_15 : decode cX2_serveFor 15 = .ok (.iload 4, 2) := dk_21 4 (dk_at dksX2_serveFor_0 15 rfl rfl)
theorem dX2_serveFor_17 : decode cX2_serveFor 17 = .ok (.iconst 0, 1) := dk_3 (dk_at dksX2_serveFor_0 17 rfl rfl)
theorem dX2_serveFor_18 : decode cX2_serveFor 18 = .ok (.invokevirtual 369, 3) := dk_182 1 113 (dk_at dksX2_serveFor_0 18 rfl rfl)
theorem dX2_serveFor_21 : decode cX2_serveFor 21 = .ok (.iload_n 1, 1) := dk_27 (dk_at dksX2_serveFor_0 21 rfl rfl)
theorem dX2_serveFor_22 : decode cX2_serveFor 22 = .ok (.if_icmp .ne 21, 3) := dk_160 0 21 (dk_at dksX2_serveFor_1 0 rfl rfl)
theorem dX2_serveFor_25 : decode cX2_serveFor 25 = .ok (.aload_n 0, 1) := dk_42 (dk_at dksX2_serveFor_1 3 rfl rfl)
theorem dX2_serveFor_26 : decode cX2_serveFor 26 = .ok (.iload 4, 2) := dk_21 4 (dk_at dksX2_serveFor_1 4 rfl rfl)
theorem dX2_serveFor_28 : decode cX2_serveFor 28 = .ok (.iconst 1, 1) := dk_4 (dk_at dksX2_serveFor_1 6 rfl rfl)
theorem dX2_serveFor_29 : decode cX2_serveFor 29 = .ok (.invokevirtual 369, 3) := dk_182 1 113 (dk_at dksX2_serveFor_1 7 rfl rfl)
theorem dX2_serveFor_32 : decode cX2_serveFor 32 = .ok (.iload_n 2, 1) := dk_28 (dk_at dksX2_serveFor_1 10 rfl rfl)
theorem dX2_serveFor_33 : decode cX2_serveFor 33 = .ok (.invokestatic 363, 3) := dk_184 1 107 (dk_at dksX2_serveFor_1 11 rfl rfl)
theorem dX2_serveFor_36 : decode cX2_serveFor 36 = .ok (.ifCond .eq 7, 3) := dk_153 0 7 (dk_at dksX2_serveFor_1 14 rfl rfl)
theorem dX2_serveFor_39 : decode cX2_serveFor 39 = .ok (.iconst 1, 1) := dk_4 (dk_at dksX2_serveFor_1 17 rfl rfl)
theorem dX2_serveFor_40 : decode cX2_serveFor 40 = .ok (.goto 4, 3) := dk_167 0 4 (dk_at dksX2_serveFor_1 18 rfl rfl)
theorem dX2_serveFor_43 : decode cX2_serveFor 43 = .ok (.iconst 0, 1) := dk_3 (dk_at dksX2_serveFor_1 21 rfl rfl)
theorem dX2_serveFor_44 : decode cX2_serveFor 44 = .ok (.istore 5, 2) := dk_54 5 (dk_at dksX2_serveFor_1 22 rfl rfl)
theorem dX2_serveFor_46 : decode cX2_serveFor 46 = .ok (.iload 5, 2) := dk_21 5 (dk_at dksX2_serveFor_2 0 rfl rfl)
theorem dX2_serveFor_48 : decode cX2_serveFor 48 = .ok (.ifCond .eq 35, 3) := dk_153 0 35 (dk_at dksX2_serveFor_2 2 rfl rfl)
theorem dX2_serveFor_51 : decode cX2_serveFor 51 = .ok (.iload_n 3, 1) := dk_29 (dk_at dksX2_serveFor_2 5 rfl rfl)
theorem dX2_serveFor_52 : decode cX2_serveFor 52 = .ok (.iconst (-1), 1) := dk_2 (dk_at dksX2_serveFor_2 6 rfl rfl)
theorem dX2_serveFor_53 : decode cX2_serveFor 53 = .ok (.if_icmp .eq 25, 3) := dk_159 0 25 (dk_at dksX2_serveFor_2 7 rfl rfl)
theorem dX2_serveFor_56 : decode cX2_serveFor 56 = .ok (.aload_n 0, 1) := dk_42 (dk_at dksX2_serveFor_2 10 rfl rfl)
theorem dX2_serveFor_57 : decode cX2_serveFor 57 = .ok (.iload 4, 2) := dk_21 4 (dk_at dksX2_serveFor_2 11 rfl rfl)
theorem dX2_serveFor_59 : decode cX2_serveFor 59 = .ok (.iconst 1, 1) := dk_4 (dk_at dksX2_serveFor_2 13 rfl rfl)
theorem dX2_serveFor_60 : decode cX2_serveFor 60 = .ok (.invokevirtual 369, 3) := dk_182 1 113 (dk_at dksX2_serveFor_2 14 rfl rfl)
theorem dX2_serveFor_63 : decode cX2_serveFor 63 = .ok (.invokestatic 354, 3) := dk_184 1 98 (dk_at dksX2_serveFor_2 17 rfl rfl)
theorem dX2_serveFor_66 : decode cX2_serveFor 66 = .ok (.aload_n 0, 1) := dk_42 (dk_at dksX2_serveFor_2 20 rfl rfl)
theorem dX2_serveFor_67 : decode cX2_serveFor 67 = .ok (.iload_n 3, 1) := dk_29 (dk_at dksX2_serveFor_2 21 rfl rfl)
theorem dX2_serveFor_68 : decode cX2_serveFor 68 = .ok (.iconst 1, 1) := dk_4 (dk_at dksX2_serveFor_2 22 rfl rfl)
theorem dX2_serveFor_69 : decode cX2_serveFor 69 = .ok (.invokevirtual 369, 3) := dk_182 1 113 (dk_at dksX2_serveFor_3 0 rfl rfl)
theorem dX2_serveFor_72 : decode cX2_serveFor 72 = .ok (.invokestatic 354, 3) := dk_184 1 98 (dk_at dksX2_serveFor_3 3 rfl rfl)
theorem dX2_serveFor_75 : decode cX2_serveFor 75 = .ok (.if_icmp .le 8, 3) := dk_164 0 8 (dk_at dksX2_serveFor_3 6 rfl rfl)
theorem dX2_serveFor_78 : decode cX2_serveFor 78 = .ok (.iload 4, 2) := dk_21 4 (dk_at dksX2_serveFor_3 9 rfl rfl)
theorem dX2_serveFor_80 : decode cX2_serveFor 80 = .ok (.goto 4, 3) := dk_167 0 4 (dk_at dksX2_serveFor_3 11 rfl rfl)
theorem dX2_serveFor_83 : decode cX2_serveFor 83 = .ok (.iload_n 3, 1) := dk_29 (dk_at dksX2_serveFor_3 14 rfl rfl)
theorem dX2_serveFor_84 : decode cX2_serveFor 84 = .ok (.istore_n 3, 1) := dk_62 (dk_at dksX2_serveFor_3 15 rfl rfl)
theorem dX2_serveFor_85 : decode cX2_serveFor 85 = .ok (.iinc 4 1, 3) := dk_132 4 1 (dk_at dksX2_serveFor_3 16 rfl rfl)
theorem dX2_serveFor_88 : decode cX2_serveFor 88 = .ok (.goto (-83), 3) := dk_167 255 173 (dk_at dksX2_serveFor_3 19 rfl rfl)
theorem dX2_serveFor_91 : decode cX2_serveFor 91 = .ok (.iload_n 3, 1) := dk_29 (dk_at dksX2_serveFor_3 22 rfl rfl)
theorem dX2_serveFor_92 : decode cX2_serveFor 92 = .ok (.ireturn, 1) := dk_172 (dk_at dksX2_serveFor_3 23 rfl rfl)
abbrev cX2_isBeginning : ByteArray := prog_25_method_48_code
def yX2_isBeginning : MethodName := ⟨RX2, "isBeginning", "(II)Z"⟩
def dkwX2_isBeginning_1 : List UInt8 := [167, 255, 240, 28, 26, 160, 0, 7, 4, 167, 0, 4, 3, 172]
abbrev dktX2_isBeginning_1 : List UInt8 := dkwX2_isBeginning_1 ++ []
def dkwX2_isBeginning_0 : List UInt8 := [27, 61, 27, 184, 1, 98, 62, 29, 26, 184, 1, 98, 164, 0, 14, 28, 16, 27, 108, 61, 132, 3, 255]
abbrev dktX2_isBeginning_0 : List UInt8 := dkwX2_isBeginning_0 ++ dktX2_isBeginning_1
theorem dksX2_isBeginning_0 : cX2_isBeginning.data.toList.drop 0 = dktX2_isBeginning_0 := by decide +kernel
theorem dksX2_isBeginning_1 : cX2_isBeginning.data.toList.drop 23 = dktX2_isBeginning_1 := dk_seg dksX2_isBeginning_0 23 rfl rfl
theorem dX2_isBeginning_0 : decode cX2_isBeginning 0 = .ok (.iload_n 1, 1) := dk_27 (dk_at dksX2_isBeginning_0 0 rfl rfl)
theorem dX2_isBeginning_1 : decode cX2_isBeginning 1 = .ok (.istore_n 2, 1) := dk_61 (dk_at dksX2_isBeginning_0 1 rfl rfl)
theorem dX2_isBeginning_2 : decode cX2_isBeginning 2 = .ok (.iload_n 1, 1) := dk_27 (dk_at dksX2_isBeginning_0 2 rfl rfl)
theorem dX2_isBeginning_3 : decode cX2_isBeginning 3 = .ok (.invokestatic 354, 3) := dk_184 1 98 (dk_at dksX2_isBeginning_0 3 rfl rfl)
theorem dX2_isBeginning_6 : decode cX2_isBeginning 6 = .ok (.istore_n 3, 1) := dk_62 (dk_at dksX2_isBeginning_0 6 rfl rfl)
theorem dX2_isBeginning_7 : decode cX2_isBeginning 7 = .ok (.iload_n 3, 1) := dk_29 (dk_at dksX2_isBeginning_0 7 rfl rfl)
theorem dX2_isBeginning_8 : decode cX2_isBeginning 8 = .ok (.iload_n 0, 1) := dk_26 (dk_at dksX2_isBeginning_0 8 rfl rfl)
theorem dX2_isBeginning_9 : decode cX2_isBeginning 9 = .ok (.invokestatic 354, 3) := dk_184 1 98 (dk_at dksX2_isBeginning_0 9 rfl rfl)
theorem dX2_isBeginning_12 : decode cX2_isBeginning 12 = .ok (.if_icmp .le 14, 3) := dk_164 0 14 (dk_at dksX2_isBeginning_0 12 rfl rfl)
theorem dX2_isBeginning_15 : decode cX2_isBeginning 15 = .ok (.iload_n 2, 1) := dk_28 (dk_at dksX2_isBeginning_0 15 rfl rfl)
theorem dX2_isBeginning_16 : decode cX2_isBeginning 16 = .ok (.bipush 27, 2) := dk_16 27 (dk_at dksX2_isBeginning_0 16 rfl rfl)
theorem dX2_isBeginning_18 : decode cX2_isBeginning 18 = .ok (.idiv, 1) := dk_108 (dk_at dksX2_isBeginning_0 18 rfl rfl)
theorem dX2_isBeginning_19 : decode cX2_isBeginning 19 = .ok (.istore_n 2, 1) := dk_61 (dk_at dksX2_isBeginning_0 19 rfl rfl)
theorem dX2_isBeginning_20 : decode cX2_isBeginning 20 = .ok (.iinc 3 (-1), 3) := dk_132 3 255 (dk_at dksX2_isBeginning_0 20 rfl rfl)
theorem dX2_isBeginning_23 : decode cX2_isBeginning 23 = .ok (.goto (-16), 3) := dk_167 255 240 (dk_at dksX2_isBeginning_1 0 rfl rfl)
theorem dX2_isBeginning_26 : decode cX2_isBeginning 26 = .ok (.iload_n 2, 1) := dk_28 (dk_at dksX2_isBeginning_1 3 rfl rfl)
theorem dX2_isBeginning_27 : decode cX2_isBeginning 27 = .ok (.iload_n 0, 1) := dk_26 (dk_at dksX2_isBeginning_1 4 rfl rfl)
theorem dX2_isBeginning_28 : decode cX2_isBeginning 28 = .ok (.if_icmp .ne 7, 3) := dk_160 0 7 (dk_at dksX2_isBeginning_1 5 rfl rfl)
theorem dX2_isBeginning_31 : decode cX2_isBeginning 31 = .ok (.iconst 1, 1) := dk_4 (dk_at dksX2_isBeginning_1 8 rfl rfl)
theorem dX2_isBeginning_32 : decode cX2_isBeginning 32 = .ok (.goto 4, 3) := dk_167 0 4 (dk_at dksX2_isBeginning_1 9 rfl rfl)
theorem dX2_isBeginning_35 : decode cX2_isBeginning 35 = .ok (.iconst 0, 1) := dk_3 (dk_at dksX2_isBeginning_1 12 rfl rfl)
theorem dX2_isBeginning_36 : decode cX2_isBeginning 36 = .ok (.ireturn, 1) := dk_172 (dk_at dksX2_isBeginning_1 13 rfl rfl)
abbrev cX2_lettersOf : ByteArray := prog_25_method_47_code
def yX2_lettersOf : MethodName := ⟨RX2, "lettersOf", "(I)I"⟩
def dkwX2_lettersOf_0 : List UInt8 := [3, 60, 26, 61, 28, 158, 0, 14, 132, 1, 1, 28, 16, 27, 108, 61, 167, 255, 244, 27, 172]
abbrev dktX2_lettersOf_0 : List UInt8 := dkwX2_lettersOf_0 ++ []
theorem dksX2_lettersOf_0 : cX2_lettersOf.data.toList.drop 0 = dktX2_lettersOf_0 := by decide +kernel
theorem dX2_lettersOf_0 : decode cX2_lettersOf 0 = .ok (.iconst 0, 1) := dk_3 (dk_at dksX2_lettersOf_0 0 rfl rfl)
theorem dX2_lettersOf_1 : decode cX2_lettersOf 1 = .ok (.istore_n 1, 1) := dk_60 (dk_at dksX2_lettersOf_0 1 rfl rfl)
theorem dX2_lettersOf_2 : decode cX2_lettersOf 2 = .ok (.iload_n 0, 1) := dk_26 (dk_at dksX2_lettersOf_0 2 rfl rfl)
theorem dX2_lettersOf_3 : decode cX2_lettersOf 3 = .ok (.istore_n 2, 1) := dk_61 (dk_at dksX2_lettersOf_0 3 rfl rfl)
theorem dX2_lettersOf_4 : decode cX2_lettersOf 4 = .ok (.iload_n 2, 1) := dk_28 (dk_at dksX2_lettersOf_0 4 rfl rfl)
theorem dX2_lettersOf_5 : decode cX2_lettersOf 5 = .ok (.ifCond .le 14, 3) := dk_158 0 14 (dk_at dksX2_lettersOf_0 5 rfl rfl)
theorem dX2_lettersOf_8 : decode cX2_lettersOf 8 = .ok (.iinc 1 1, 3) := dk_132 1 1 (dk_at dksX2_lettersOf_0 8 rfl rfl)
theorem dX2_lettersOf_11 : decode cX2_lettersOf 11 = .ok (.iload_n 2, 1) := dk_28 (dk_at dksX2_lettersOf_0 11 rfl rfl)
theorem dX2_lettersOf_12 : decode cX2_lettersOf 12 = .ok (.bipush 27, 2) := dk_16 27 (dk_at dksX2_lettersOf_0 12 rfl rfl)
theorem dX2_lettersOf_14 : decode cX2_lettersOf 14 = .ok (.idiv, 1) := dk_108 (dk_at dksX2_lettersOf_0 14 rfl rfl)
theorem dX2_lettersOf_15 : decode cX2_lettersOf 15 = .ok (.istore_n 2, 1) := dk_61 (dk_at dksX2_lettersOf_0 15 rfl rfl)
theorem dX2_lettersOf_16 : decode cX2_lettersOf 16 = .ok (.goto (-12), 3) := dk_167 255 244 (dk_at dksX2_lettersOf_0 16 rfl rfl)
theorem dX2_lettersOf_19 : decode cX2_lettersOf 19 = .ok (.iload_n 1, 1) := dk_27 (dk_at dksX2_lettersOf_0 19 rfl rfl)
theorem dX2_lettersOf_20 : decode cX2_lettersOf 20 = .ok (.ireturn, 1) := dk_172 (dk_at dksX2_lettersOf_0 20 rfl rfl)
abbrev cX2_fromServer : ByteArray := prog_25_method_73_code
def yX2_fromServer : MethodName := ⟨RX2, "fromServer", "(IIII)V"⟩
def dkwX2_fromServer_1 : List UInt8 := [181, 1, 161, 42, 3, 181, 1, 164, 42, 27, 29, 21, 4, 182, 1, 213, 177]
abbrev dktX2_fromServer_1 : List UInt8 := dkwX2_fromServer_1 ++ []
def dkwX2_fromServer_0 : List UInt8 := [42, 42, 180, 1, 128, 42, 28, 5, 182, 1, 113, 96, 181, 1, 155, 42, 27, 181, 1, 158, 42, 27]
abbrev dktX2_fromServer_0 : List UInt8 := dkwX2_fromServer_0 ++ dktX2_fromServer_1
theorem dksX2_fromServer_0 : cX2_fromServer.data.toList.drop 0 = dktX2_fromServer_0 := by decide +kernel
theorem dksX2_fromServer_1 : cX2_fromServer.data.toList.drop 22 = dktX2_fromServer_1 := dk_seg dksX2_fromServer_0 22 rfl rfl
theorem dX2_fromServer_0 : decode cX2_fromServer 0 = .ok (.aload_n 0, 1) := dk_42 (dk_at dksX2_fromServer_0 0 rfl rfl)
theorem dX2_fromServer_1 : decode cX2_fromServer 1 = .ok (.aload_n 0, 1) := dk_42 (dk_at dksX2_fromServer_0 1 rfl rfl)
theorem dX2_fromServer_2 : decode cX2_fromServer 2 = .ok (.getfield 384, 3) := dk_180 1 128 (dk_at dksX2_fromServer_0 2 rfl rfl)
theorem dX2_fromServer_5 : decode cX2_fromServer 5 = .ok (.aload_n 0, 1) := dk_42 (dk_at dksX2_fromServer_0 5 rfl rfl)
theorem dX2_fromServer_6 : decode cX2_fromServer 6 = .ok (.iload_n 2, 1) := dk_28 (dk_at dksX2_fromServer_0 6 rfl rfl)
theorem dX2_fromServer_7 : decode cX2_fromServer 7 = .ok (.iconst 2, 1) := dk_5 (dk_at dksX2_fromServer_0 7 rfl rfl)
theorem dX2_fromServer_8 : decode cX2_fromServer 8 = .ok (.invokevirtual 369, 3) := dk_182 1 113 (dk_at dksX2_fromServer_0 8 rfl rfl)
theorem dX2_fromServer_11 : decode cX2_fromServer 11 = .ok (.iadd, 1) := dk_96 (dk_at dksX2_fromServer_0 11 rfl rfl)
theorem dX2_fromServer_12 : decode cX2_fromServer 12 = .ok (.putfield 411, 3) := dk_181 1 155 (dk_at dksX2_fromServer_0 12 rfl rfl)
theorem dX2_fromServer_15 : decode cX2_fromServer 15 = .ok (.aload_n 0, 1) := dk_42 (dk_at dksX2_fromServer_0 15 rfl rfl)
theorem dX2_fromServer_16 : decode cX2_fromServer 16 = .ok (.iload_n 1, 1) := dk_27 (dk_at dksX2_fromServer_0 16 rfl rfl)
theorem dX2_fromServer_17 : decode cX2_fromServer 17 = .ok (.putfield 414, 3) := dk_181 1 158 (dk_at dksX2_fromServer_0 17 rfl rfl)
theorem dX2_fromServer_20 : decode cX2_fromServer 20 = .ok (.aload_n 0, 1) := dk_42 (dk_at dksX2_fromServer_0 20 rfl rfl)
theorem dX2_fromServer_21 : decode cX2_fromServer 21 = .ok (.iload_n 1, 1) := dk_27 (dk_at dksX2_fromServer_0 21 rfl rfl)
theorem dX2_fromServer_22 : decode cX2_fromServer 22 = .ok (.putfield 417, 3) := dk_181 1 161 (dk_at dksX2_fromServer_1 0 rfl rfl)
theorem dX2_fromServer_25 : decode cX2_fromServer 25 = .ok (.aload_n 0, 1) := dk_42 (dk_at dksX2_fromServer_1 3 rfl rfl)
theorem dX2_fromServer_26 : decode cX2_fromServer 26 = .ok (.iconst 0, 1) := dk_3 (dk_at dksX2_fromServer_1 4 rfl rfl)
theorem dX2_fromServer_27 : decode cX2_fromServer 27 = .ok (.putfield 420, 3) := dk_181 1 164 (dk_at dksX2_fromServer_1 5 rfl rfl)
theorem dX2_fromServer_30 : decode cX2_fromServer 30 = .ok (.aload_n 0, 1) := dk_42 (dk_at dksX2_fromServer_1 8 rfl rfl)
theorem dX2_fromServer_31 : decode cX2_fromServer 31 = .ok (.iload_n 1, 1) := dk_27 (dk_at dksX2_fromServer_1 9 rfl rfl)
theorem dX2_fromServer_32 : decode cX2_fromServer 32 = .ok (.iload_n 3, 1) := dk_29 (dk_at dksX2_fromServer_1 10 rfl rfl)
theorem dX2_fromServer_33 : decode cX2_fromServer 33 = .ok (.iload 4, 2) := dk_21 4 (dk_at dksX2_fromServer_1 11 rfl rfl)
theorem dX2_fromServer_35 : decode cX2_fromServer 35 = .ok (.invokevirtual 469, 3) := dk_182 1 213 (dk_at dksX2_fromServer_1 13 rfl rfl)
theorem dX2_fromServer_38 : decode cX2_fromServer 38 = .ok (.return_, 1) := dk_177 (dk_at dksX2_fromServer_1 16 rfl rfl)
abbrev cX2_joins : ByteArray := prog_25_method_70_code
def yX2_joins : MethodName := ⟨RX2, "joins", "(III)V"⟩
def dkwX2_joins_2 : List UInt8 := [177]
abbrev dktX2_joins_2 : List UInt8 := dkwX2_joins_2 ++ []
def dkwX2_joins_1 : List UInt8 := [42, 180, 0, 72, 27, 92, 46, 4, 28, 120, 128, 79, 42, 180, 0, 78, 27, 92, 47, 10, 29, 121, 129, 80]
abbrev dktX2_joins_1 : List UInt8 := dkwX2_joins_1 ++ dktX2_joins_2
def dkwX2_joins_0 : List UInt8 := [28, 16, 100, 161, 0, 21, 42, 180, 0, 75, 27, 92, 47, 10, 28, 16, 100, 100, 121, 129, 80, 167, 0, 15]
abbrev dktX2_joins_0 : List UInt8 := dkwX2_joins_0 ++ dktX2_joins_1
theorem dksX2_joins_0 : cX2_joins.data.toList.drop 0 = dktX2_joins_0 := by decide +kernel
theorem dksX2_joins_1 : cX2_joins.data.toList.drop 24 = dktX2_joins_1 := dk_seg dksX2_joins_0 24 rfl rfl
theorem dksX2_joins_2 : cX2_joins.data.toList.drop 48 = dktX2_joins_2 := dk_seg dksX2_joins_1 24 rfl rfl
theorem dX2_joins_0 : decode cX2_joins 0 = .ok (.iload_n 2, 1) := dk_28 (dk_at dksX2_joins_0 0 rfl rfl)
theorem dX2_joins_1 : decode cX2_joins 1 = .ok (.bipush 100, 2) := dk_16 100 (dk_at dksX2_joins_0 1 rfl rfl)
theorem dX2_joins_3 : decode cX2_joins 3 = .ok (.if_icmp .lt 21, 3) := dk_161 0 21 (dk_at dksX2_joins_0 3 rfl rfl)
theorem dX2_joins_6 : decode cX2_joins 6 = .ok (.aload_n 0, 1) := dk_42 (dk_at dksX2_joins_0 6 rfl rfl)
theorem dX2_joins_7 : decode cX2_joins 7 = .ok (.getfield 75, 3) := dk_180 0 75 (dk_at dksX2_joins_0 7 rfl rfl)
theorem dX2_joins_10 : decode cX2_joins 10 = .ok (.iload_n 1, 1) := dk_27 (dk_at dksX2_joins_0 10 rfl rfl)
theorem dX2_joins_11 : decode cX2_joins 11 = .ok (.dup2, 1) := dk_92 (dk_at dksX2_joins_0 11 rfl rfl)
theorem dX2_joins_12 : decode cX2_joins 12 = .ok (.laload, 1) := dk_47 (dk_at dksX2_joins_0 12 rfl rfl)
theorem dX2_joins_13 : decode cX2_joins 13 = .ok (.lconst 1, 1) := dk_10 (dk_at dksX2_joins_0 13 rfl rfl)
theorem dX2_joins_14 : decode cX2_joins 14 = .ok (.iload_n 2, 1) := dk_28 (dk_at dksX2_joins_0 14 rfl rfl)
theorem dX2_joins_15 : decode cX2_joins 15 = .ok (.bipush 100, 2) := dk_16 100 (dk_at dksX2_joins_0 15 rfl rfl)
theorem dX2_joins_17 : decode cX2_joins 17 = .ok (.isub, 1) := dk_100 (dk_at dksX2_joins_0 17 rfl rfl)
theorem dX2_joins_18 : decode cX2_joins 18 = .ok (.lshl, 1) := dk_121 (dk_at dksX2_joins_0 18 rfl rfl)
theorem dX2_joins_19 : decode cX2_joins 19 = .ok (.lor, 1) := dk_129 (dk_at dksX2_joins_0 19 rfl rfl)
theorem dX2_joins_20 : decode cX2_joins 20 = .ok (.lastore, 1) := dk_80 (dk_at dksX2_joins_0 20 rfl rfl)
theorem dX2_joins_21 : decode cX2_joins 21 = .ok (.goto 15, 3) := dk_167 0 15 (dk_at dksX2_joins_0 21 rfl rfl)
theorem dX2_joins_24 : decode cX2_joins 24 = .ok (.aload_n 0, 1) := dk_42 (dk_at dksX2_joins_1 0 rfl rfl)
theorem dX2_joins_25 : decode cX2_joins 25 = .ok (.getfield 72, 3) := dk_180 0 72 (dk_at dksX2_joins_1 1 rfl rfl)
theorem dX2_joins_28 : decode cX2_joins 28 = .ok (.iload_n 1, 1) := dk_27 (dk_at dksX2_joins_1 4 rfl rfl)
theorem dX2_joins_29 : decode cX2_joins 29 = .ok (.dup2, 1) := dk_92 (dk_at dksX2_joins_1 5 rfl rfl)
theorem dX2_joins_30 : decode cX2_joins 30 = .ok (.iaload, 1) := dk_46 (dk_at dksX2_joins_1 6 rfl rfl)
theorem dX2_joins_31 : decode cX2_joins 31 = .ok (.iconst 1, 1) := dk_4 (dk_at dksX2_joins_1 7 rfl rfl)
theorem dX2_joins_32 : decode cX2_joins 32 = .ok (.iload_n 2, 1) := dk_28 (dk_at dksX2_joins_1 8 rfl rfl)
theorem dX2_joins_33 : decode cX2_joins 33 = .ok (.ishl, 1) := dk_120 (dk_at dksX2_joins_1 9 rfl rfl)
theorem dX2_joins_34 : decode cX2_joins 34 = .ok (.ior, 1) := dk_128 (dk_at dksX2_joins_1 10 rfl rfl)
theorem dX2_joins_35 : decode cX2_joins 35 = .ok (.iastore, 1) := dk_79 (dk_at dksX2_joins_1 11 rfl rfl)
theorem dX2_joins_36 : decode cX2_joins 36 = .ok (.aload_n 0, 1) := dk_42 (dk_at dksX2_joins_1 12 rfl rfl)
theorem dX2_joins_37 : decode cX2_joins 37 = .ok (.getfield 78, 3) := dk_180 0 78 (dk_at dksX2_joins_1 13 rfl rfl)
theorem dX2_joins_40 : decode cX2_joins 40 = .ok (.iload_n 1, 1) := dk_27 (dk_at dksX2_joins_1 16 rfl rfl)
theorem dX2_joins_41 : decode cX2_joins 41 = .ok (.dup2, 1) := dk_92 (dk_at dksX2_joins_1 17 rfl rfl)
theorem dX2_joins_42 : decode cX2_joins 42 = .ok (.laload, 1) := dk_47 (dk_at dksX2_joins_1 18 rfl rfl)
theorem dX2_joins_43 : decode cX2_joins 43 = .ok (.lconst 1, 1) := dk_10 (dk_at dksX2_joins_1 19 rfl rfl)
theorem dX2_joins_44 : decode cX2_joins 44 = .ok (.iload_n 3, 1) := dk_29 (dk_at dksX2_joins_1 20 rfl rfl)
theorem dX2_joins_45 : decode cX2_joins 45 = .ok (.lshl, 1) := dk_121 (dk_at dksX2_joins_1 21 rfl rfl)
theorem dX2_joins_46 : decode cX2_joins 46 = .ok (.lor, 1) := dk_129 (dk_at dksX2_joins_1 22 rfl rfl)
theorem dX2_joins_47 : decode cX2_joins 47 = .ok (.lastore, 1) := dk_80 (dk_at dksX2_joins_1 23 rfl rfl)
theorem dX2_joins_48 : decode cX2_joins 48 = .ok (.return_, 1) := dk_177 (dk_at dksX2_joins_2 0 rfl rfl)
abbrev cX2_makesEntry : ByteArray := prog_25_method_71_code
def yX2_makesEntry : MethodName := ⟨RX2, "makesEntry", "(IIIII)V"⟩
def dkwX2_makesEntry_6 : List UInt8 := [21, 4, 4, 182, 1, 206, 177]
abbrev dktX2_makesEntry_6 : List UInt8 := dkwX2_makesEntry_6 ++ []
def dkwX2_makesEntry_5 : List UInt8 := [182, 1, 197, 42, 27, 21, 6, 182, 1, 200, 154, 0, 20, 42, 27, 21, 6, 182, 1, 203, 42, 27, 28, 29]
abbrev dktX2_makesEntry_5 : List UInt8 := dkwX2_makesEntry_5 ++ dktX2_makesEntry_6
def dkwX2_makesEntry_4 : List UInt8 := [79, 42, 180, 0, 93, 21, 6, 42, 180, 1, 128, 42, 180, 1, 86, 96, 79, 42, 21, 6, 28, 21, 5]
abbrev dktX2_makesEntry_4 : List UInt8 := dkwX2_makesEntry_4 ++ dktX2_makesEntry_5
def dkwX2_makesEntry_3 : List UInt8 := [79, 42, 180, 0, 84, 21, 6, 2, 79, 42, 180, 0, 87, 21, 6, 3, 79, 42, 180, 0, 90, 21, 6, 3]
abbrev dktX2_makesEntry_3 : List UInt8 := dkwX2_makesEntry_3 ++ dktX2_makesEntry_4
def dkwX2_makesEntry_2 : List UInt8 := [42, 180, 0, 75, 21, 6, 9, 80, 42, 180, 0, 78, 21, 6, 9, 80, 42, 180, 0, 81, 21, 6, 21, 5]
abbrev dktX2_makesEntry_2 : List UInt8 := dkwX2_makesEntry_2 ++ dktX2_makesEntry_3
def dkwX2_makesEntry_1 : List UInt8 := [180, 0, 66, 21, 6, 29, 79, 42, 180, 0, 69, 21, 6, 21, 4, 79, 42, 180, 0, 72, 21, 6, 3, 79]
abbrev dktX2_makesEntry_1 : List UInt8 := dkwX2_makesEntry_1 ++ dktX2_makesEntry_2
def dkwX2_makesEntry_0 : List UInt8 := [16, 64, 27, 104, 42, 180, 0, 63, 27, 46, 96, 54, 6, 42, 180, 0, 63, 27, 92, 46, 4, 96, 79, 42]
abbrev dktX2_makesEntry_0 : List UInt8 := dkwX2_makesEntry_0 ++ dktX2_makesEntry_1
theorem dksX2_makesEntry_0 : cX2_makesEntry.data.toList.drop 0 = dktX2_makesEntry_0 := by decide +kernel
theorem dksX2_makesEntry_1 : cX2_makesEntry.data.toList.drop 24 = dktX2_makesEntry_1 := dk_seg dksX2_makesEntry_0 24 rfl rfl
theorem dksX2_makesEntry_2 : cX2_makesEntry.data.toList.drop 48 = dktX2_makesEntry_2 := dk_seg dksX2_makesEntry_1 24 rfl rfl
theorem dksX2_makesEntry_3 : cX2_makesEntry.data.toList.drop 72 = dktX2_makesEntry_3 := dk_seg dksX2_makesEntry_2 24 rfl rfl
theorem dksX2_makesEntry_4 : cX2_makesEntry.data.toList.drop 96 = dktX2_makesEntry_4 := dk_seg dksX2_makesEntry_3 24 rfl rfl
theorem dksX2_makesEntry_5 : cX2_makesEntry.data.toList.drop 119 = dktX2_makesEntry_5 := dk_seg dksX2_makesEntry_4 23 rfl rfl
theorem dksX2_makesEntry_6 : cX2_makesEntry.data.toList.drop 143 = dktX2_makesEntry_6 := dk_seg dksX2_makesEntry_5 24 rfl rfl
theorem dX2_makesEntry_0 : decode cX2_makesEntry 0 = .ok (.bipush 64, 2) := dk_16 64 (dk_at dksX2_makesEntry_0 0 rfl rfl)
theorem dX2_makesEntry_2 : decode cX2_makesEntry 2 = .ok (.iload_n 1, 1) := dk_27 (dk_at dksX2_makesEntry_0 2 rfl rfl)
theorem dX2_makesEntry_3 : decode cX2_makesEntry 3 = .ok (.imul, 1) := dk_104 (dk_at dksX2_makesEntry_0 3 rfl rfl)
theorem dX2_makesEntry_4 : decode cX2_makesEntry 4 = .ok (.aload_n 0, 1) := dk_42 (dk_at dksX2_makesEntry_0 4 rfl rfl)
theorem dX2_makesEntry_5 : decode cX2_makesEntry 5 = .ok (.getfield 63, 3) := dk_180 0 63 (dk_at dksX2_makesEntry_0 5 rfl rfl)
theorem dX2_makesEntry_8 : decode cX2_makesEntry 8 = .ok (.iload_n 1, 1) := dk_27 (dk_at dksX2_makesEntry_0 8 rfl rfl)
theorem dX2_makesEntry_9 : decode cX2_makesEntry 9 = .ok (.iaload, 1) := dk_46 (dk_at dksX2_makesEntry_0 9 rfl rfl)
theorem dX2_makesEntry_10 : decode cX2_makesEntry 10 = .ok (.iadd, 1) := dk_96 (dk_at dksX2_makesEntry_0 10 rfl rfl)
theorem dX2_makesEntry_11 : decode cX2_makesEntry 11 = .ok (.istore 6, 2) := dk_54 6 (dk_at dksX2_makesEntry_0 11 rfl rfl)
theorem dX2_makesEntry_13 : decode cX2_makesEntry 13 = .ok (.aload_n 0, 1) := dk_42 (dk_at dksX2_makesEntry_0 13 rfl rfl)
theorem dX2_makesEntry_14 : decode cX2_makesEntry 14 = .ok (.getfield 63, 3) := dk_180 0 63 (dk_at dksX2_makesEntry_0 14 rfl rfl)
theorem dX2_makesEntry_17 : decode cX2_makesEntry 17 = .ok (.iload_n 1, 1) := dk_27 (dk_at dksX2_makesEntry_0 17 rfl rfl)
theorem dX2_makesEntry_18 : decode cX2_makesEntry 18 = .ok (.dup2, 1) := dk_92 (dk_at dksX2_makesEntry_0 18 rfl rfl)
theorem dX2_makesEntry_19 : decode cX2_makesEntry 19 = .ok (.iaload, 1) := dk_46 (dk_at dksX2_makesEntry_0 19 rfl rfl)
theorem dX2_makesEntry_20 : decode cX2_makesEntry 20 = .ok (.iconst 1, 1) := dk_4 (dk_at dksX2_makesEntry_0 20 rfl rfl)
theorem dX2_makesEntry_21 : decode cX2_makesEntry 21 = .ok (.iadd, 1) := dk_96 (dk_at dksX2_makesEntry_0 21 rfl rfl)
theorem dX2_makesEntry_22 : decode cX2_makesEntry 22 = .ok (.iastore, 1) := dk_79 (dk_at dksX2_makesEntry_0 22 rfl rfl)
theorem dX2_makesEntry_23 : decode cX2_makesEntry 23 = .ok (.aload_n 0, 1) := dk_42 (dk_at dksX2_makesEntry_0 23 rfl rfl)
theorem dX2_makesEntry_24 : decode cX2_makesEntry 24 = .ok (.getfield 66, 3) := dk_180 0 66 (dk_at dksX2_makesEntry_1 0 rfl rfl)
theorem dX2_makesEntry_27 : decode cX2_makesEntry 27 = .ok (.iload 6, 2) := dk_21 6 (dk_at dksX2_makesEntry_1 3 rfl rfl)
theorem dX2_makesEntry_29 : decode cX2_makesEntry 29 = .ok (.iload_n 3, 1) := dk_29 (dk_at dksX2_makesEntry_1 5 rfl rfl)
theorem dX2_makesEntry_30 : decode cX2_makesEntry 30 = .ok (.iastore, 1) := dk_79 (dk_at dksX2_makesEntry_1 6 rfl rfl)
theorem dX2_makesEntry_31 : decode cX2_makesEntry 31 = .ok (.aload_n 0, 1) := dk_42 (dk_at dksX2_makesEntry_1 7 rfl rfl)
theorem dX2_makesEntry_32 : decode cX2_makesEntry 32 = .ok (.getfield 69, 3) := dk_180 0 69 (dk_at dksX2_makesEntry_1 8 rfl rfl)
theorem dX2_makesEntry_35 : decode cX2_makesEntry 35 = .ok (.iload 6, 2) := dk_21 6 (dk_at dksX2_makesEntry_1 11 rfl rfl)
theorem dX2_makesEntry_37 : decode cX2_makesEntry 37 = .ok (.iload 4, 2) := dk_21 4 (dk_at dksX2_makesEntry_1 13 rfl rfl)
theorem dX2_makesEntry_39 : decode cX2_makesEntry 39 = .ok (.iastore, 1) := dk_79 (dk_at dksX2_makesEntry_1 15 rfl rfl)
theorem dX2_makesEntry_40 : decode cX2_makesEntry 40 = .ok (.aload_n 0, 1) := dk_42 (dk_at dksX2_makesEntry_1 16 rfl rfl)
theorem dX2_makesEntry_41 : decode cX2_makesEntry 41 = .ok (.getfield 72, 3) := dk_180 0 72 (dk_at dksX2_makesEntry_1 17 rfl rfl)
theorem dX2_makesEntry_44 : decode cX2_makesEntry 44 = .ok (.iload 6, 2) := dk_21 6 (dk_at dksX2_makesEntry_1 20 rfl rfl)
theorem dX2_makesEntry_46 : decode cX2_makesEntry 46 = .ok (.iconst 0, 1) := dk_3 (dk_at dksX2_makesEntry_1 22 rfl rfl)
theorem dX2_makesEntry_47 : decode cX2_makesEntry 47 = .ok (.iastore, 1) := dk_79 (dk_at dksX2_makesEntry_1 23 rfl rfl)
theorem dX2_makesEntry_48 : decode cX2_makesEntry 48 = .ok (.aload_n 0, 1) := dk_42 (dk_at dksX2_makesEntry_2 0 rfl rfl)
theorem dX2_makesEntry_49 : decode cX2_makesEntry 49 = .ok (.getfield 75, 3) := dk_180 0 75 (dk_at dksX2_makesEntry_2 1 rfl rfl)
theorem dX2_makesEntry_52 : decode cX2_makesEntry 52 = .ok (.iload 6, 2) := dk_21 6 (dk_at dksX2_makesEntry_2 4 rfl rfl)
theorem dX2_makesEntry_54 : decode cX2_makesEntry 54 = .ok (.lconst 0, 1) := dk_9 (dk_at dksX2_makesEntry_2 6 rfl rfl)
theorem dX2_makesEntry_55 : decode cX2_makesEntry 55 = .ok (.lastore, 1) := dk_80 (dk_at dksX2_makesEntry_2 7 rfl rfl)
theorem dX2_makesEntry_56 : decode cX2_makesEntry 56 = .ok (.aload_n 0, 1) := dk_42 (dk_at dksX2_makesEntry_2 8 rfl rfl)
theorem dX2_makesEntry_57 : decode cX2_makesEntry 57 = .ok (.getfield 78, 3) := dk_180 0 78 (dk_at dksX2_makesEntry_2 9 rfl rfl)
theorem dX2_makesEntry_60 : decode cX2_makesEntry 60 = .ok (.iload 6, 2) := dk_21 6 (dk_at dksX2_makesEntry_2 12 rfl rfl)
theorem dX2_makesEntry_62 : decode cX2_makesEntry 62 = .ok (.lconst 0, 1) := dk_9 (dk_at dksX2_makesEntry_2 14 rfl rfl)
theorem dX2_makesEntry_63 : decode cX2_makesEntry 63 = .ok (.lastore, 1) := dk_80 (dk_at dksX2_makesEntry_2 15 rfl rfl)
theorem dX2_makesEntry_64 : decode cX2_makesEntry 64 = .ok (.aload_n 0, 1) := dk_42 (dk_at dksX2_makesEntry_2 16 rfl rfl)
theorem dX2_makesEntry_65 : decode cX2_makesEntry 65 = .ok (.getfield 81, 3) := dk_180 0 81 (dk_at dksX2_makesEntry_2 17 rfl rfl)
theorem dX2_makesEntry_68 : decode cX2_makesEntry 68 = .ok (.iload 6, 2) := dk_21 6 (dk_at dksX2_makesEntry_2 20 rfl rfl)
theorem dX2_makesEntry_70 : decode cX2_makesEntry 70 = .ok (.iload 5, 2) := dk_21 5 (dk_at dksX2_makesEntry_2 22 rfl rfl)
theorem dX2_makesEntry_72 : decode cX2_makesEntry 72 = .ok (.iastore, 1) := dk_79 (dk_at dksX2_makesEntry_3 0 rfl rfl)
theorem dX2_makesEntry_73 : decode cX2_makesEntry 73 = .ok (.aload_n 0, 1) := dk_42 (dk_at dksX2_makesEntry_3 1 rfl rfl)
theorem dX2_makesEntry_74 : decode cX2_makesEntry 74 = .ok (.getfield 84, 3) := dk_180 0 84 (dk_at dksX2_makesEntry_3 2 rfl rfl)
theorem dX2_makesEntry_77 : decode cX2_makesEntry 77 = .ok (.iload 6, 2) := dk_21 6 (dk_at dksX2_makesEntry_3 5 rfl rfl)
theorem dX2_makesEntry_79 : decode cX2_makesEntry 79 = .ok (.iconst (-1), 1) := dk_2 (dk_at dksX2_makesEntry_3 7 rfl rfl)
theorem dX2_makesEntry_80 : decode cX2_makesEntry 80 = .ok (.iastore, 1) := dk_79 (dk_at dksX2_makesEntry_3 8 rfl rfl)
theorem dX2_makesEntry_81 : decode cX2_makesEntry 81 = .ok (.aload_n 0, 1) := dk_42 (dk_at dksX2_makesEntry_3 9 rfl rfl)
theorem dX2_makesEntry_82 : decode cX2_makesEntry 82 = .ok (.getfield 87, 3) := dk_180 0 87 (dk_at dksX2_makesEntry_3 10 rfl rfl)
theorem dX2_makesEntry_85 : decode cX2_makesEntry 85 = .ok (.iload 6, 2) := dk_21 6 (dk_at dksX2_makesEntry_3 13 rfl rfl)
theorem dX2_makesEntry_87 : decode cX2_makesEntry 87 = .ok (.iconst 0, 1) := dk_3 (dk_at dksX2_makesEntry_3 15 rfl rfl)
theorem dX2_makesEntry_88 : decode cX2_makesEntry 88 = .ok (.iastore, 1) := dk_79 (dk_at dksX2_makesEntry_3 16 rfl rfl)
theorem dX2_makesEntry_89 : decode cX2_makesEntry 89 = .ok (.aload_n 0, 1) := dk_42 (dk_at dksX2_makesEntry_3 17 rfl rfl)
theorem dX2_makesEntry_90 : decode cX2_makesEntry 90 = .ok (.getfield 90, 3) := dk_180 0 90 (dk_at dksX2_makesEntry_3 18 rfl rfl)
theorem dX2_makesEntry_93 : decode cX2_makesEntry 93 = .ok (.iload 6, 2) := dk_21 6 (dk_at dksX2_makesEntry_3 21 rfl rfl)
theorem dX2_makesEntry_95 : decode cX2_makesEntry 95 = .ok (.iconst 0, 1) := dk_3 (dk_at dksX2_makesEntry_3 23 rfl rfl)
theorem dX2_makesEntry_96 : decode cX2_makesEntry 96 = .ok (.iastore, 1) := dk_79 (dk_at dksX2_makesEntry_4 0 rfl rfl)
theorem dX2_makesEntry_97 : decode cX2_makesEntry 97 = .ok (.aload_n 0, 1) := dk_42 (dk_at dksX2_makesEntry_4 1 rfl rfl)
theorem dX2_makesEntry_98 : decode cX2_makesEntry 98 = .ok (.getfield 93, 3) := dk_180 0 93 (dk_at dksX2_makesEntry_4 2 rfl rfl)
theorem dX2_makesEntry_101 : decode cX2_makesEntry 101 = .ok (.iload 6, 2) := dk_21 6 (dk_at dksX2_makesEntry_4 5 rfl rfl)
theorem dX2_makesEntry_103 : decode cX2_makesEntry 103 = .ok (.aload_n 0, 1) := dk_42 (dk_at dksX2_makesEntry_4 7 rfl rfl)
theorem dX2_makesEntry_104 : decode cX2_makesEntry 104 = .ok (.getfield 384, 3) := dk_180 1 128 (dk_at dksX2_makesEntry_4 8 rfl rfl)
theorem dX2_makesEntry_107 : decode cX2_makesEntry 107 = .ok (.aload_n 0, 1) := dk_42 (dk_at dksX2_makesEntry_4 11 rfl rfl)
theorem dX2_makesEntry_108 : decode cX2_makesEntry 108 = .ok (.getfield 342, 3) := dk_180 1 86 (dk_at dksX2_makesEntry_4 12 rfl rfl)
theorem dX2_makesEntry_111 : decode cX2_makesEntry 111 = .ok (.iadd, 1) := dk_96 (dk_at dksX2_makesEntry_4 15 rfl rfl)
theorem dX2_makesEntry_112 : decode cX2_makesEntry 112 = .ok (.iastore, 1) := dk_79 (dk_at dksX2_makesEntry_4 16 rfl rfl)
theorem dX2_makesEntry_113 : decode cX2_makesEntry 113 = .ok (.aload_n 0, 1) := dk_42 (dk_at dksX2_makesEntry_4 17 rfl rfl)
theorem dX2_makesEntry_114 : decode cX2_makesEntry 114 = .ok (.iload 6, 2) := dk_21 6 (dk_at dksX2_makesEntry_4 18 rfl rfl)
theorem dX2_makesEntry_116 : decode cX2_makesEntry 116 = .ok (.iload_n 2, 1) := dk_28 (dk_at dksX2_makesEntry_4 20 rfl rfl)
theorem dX2_makesEntry_117 : decode cX2_makesEntry 117 = .ok (.iload 5, 2) := dk_21 5 (dk_at dksX2_makesEntry_4 21 rfl rfl)
theorem dX2_makesEntry_119 : decode cX2_makesEntry 119 = .ok (.invokevirtual 453, 3) := dk_182 1 197 (dk_at dksX2_makesEntry_5 0 rfl rfl)
theorem dX2_makesEntry_122 : decode cX2_makesEntry 122 = .ok (.aload_n 0, 1) := dk_42 (dk_at dksX2_makesEntry_5 3 rfl rfl)
theorem dX2_makesEntry_123 : decode cX2_makesEntry 123 = .ok (.iload_n 1, 1) := dk_27 (dk_at dksX2_makesEntry_5 4 rfl rfl)
theorem dX2_makesEntry_124 : decode cX2_makesEntry 124 = .ok (.iload 6, 2) := dk_21 6 (dk_at dksX2_makesEntry_5 5 rfl rfl)
theorem dX2_makesEntry_126 : decode cX2_makesEntry 126 = .ok (.invokevirtual 456, 3) := dk_182 1 200 (dk_at dksX2_makesEntry_5 7 rfl rfl)
theorem dX2_makesEntry_129 : decode cX2_makesEntry 129 = .ok (.ifCond .ne 20, 3) := dk_154 0 20 (dk_at dksX2_makesEntry_5 10 rfl rfl)
theorem dX2_makesEntry_132 : decode cX2_makesEntry 132 = .ok (.aload_n 0, 1) := dk_42 (dk_at dksX2_makesEntry_5 13 rfl rfl)
theorem dX2_makesEntry_133 : decode cX2_makesEntry 133 = .ok (.iload_n 1, 1) := dk_27 (dk_at dksX2_makesEntry_5 14 rfl rfl)
theorem dX2_makesEntry_134 : decode cX2_makesEntry 134 = .ok (.iload 6, 2) := dk_21 6 (dk_at dksX2_makesEntry_5 15 rfl rfl)
theorem dX2_makesEntry_136 : decode cX2_makesEntry 136 = .ok (.invokevirtual 459, 3) := dk_182 1 203 (dk_at dksX2_makesEntry_5 17 rfl rfl)
theorem dX2_makesEntry_139 : decode cX2_makesEntry 139 = .ok (.aload_n 0, 1) := dk_42 (dk_at dksX2_makesEntry_5 20 rfl rfl)
theorem dX2_makesEntry_140 : decode cX2_makesEntry 140 = .ok (.iload_n 1, 1) := dk_27 (dk_at dksX2_makesEntry_5 21 rfl rfl)
theorem dX2_makesEntry_141 : decode cX2_makesEntry 141 = .ok (.iload_n 2, 1) := dk_28 (dk_at dksX2_makesEntry_5 22 rfl rfl)
theorem dX2_makesEntry_142 : decode cX2_makesEntry 142 = .ok (.iload_n 3, 1) := dk_29 (dk_at dksX2_makesEntry_5 23 rfl rfl)
theorem dX2_makesEntry_143 : decode cX2_makesEntry 143 = .ok (.iload 4, 2) := dk_21 4 (dk_at dksX2_makesEntry_6 0 rfl rfl)
theorem dX2_makesEntry_145 : decode cX2_makesEntry 145 = .ok (.iconst 1, 1) := dk_4 (dk_at dksX2_makesEntry_6 2 rfl rfl)
theorem dX2_makesEntry_146 : decode cX2_makesEntry 146 = .ok (.invokevirtual 462, 3) := dk_182 1 206 (dk_at dksX2_makesEntry_6 3 rfl rfl)
theorem dX2_makesEntry_149 : decode cX2_makesEntry 149 = .ok (.return_, 1) := dk_177 (dk_at dksX2_makesEntry_6 6 rfl rfl)
abbrev cX2_goesOn : ByteArray := prog_25_method_69_code
def yX2_goesOn : MethodName := ⟨RX2, "goesOn", "(II)Z"⟩
def dkwX2_goesOn_3 : List UInt8 := [180, 0, 69, 28, 46, 42, 180, 0, 81, 28, 46, 182, 1, 170, 4, 172]
abbrev dktX2_goesOn_3 : List UInt8 := dkwX2_goesOn_3 ++ []
def dkwX2_goesOn_2 : List UInt8 := [120, 128, 79, 42, 180, 0, 90, 28, 42, 180, 1, 128, 79, 42, 3, 27, 29, 42, 180, 0, 66, 28, 46, 42]
abbrev dktX2_goesOn_2 : List UInt8 := dkwX2_goesOn_2 ++ dktX2_goesOn_3
def dkwX2_goesOn_1 : List UInt8 := [62, 29, 2, 160, 0, 5, 3, 172, 42, 180, 0, 84, 28, 29, 79, 42, 180, 0, 87, 28, 92, 46, 4, 29]
abbrev dktX2_goesOn_1 : List UInt8 := dkwX2_goesOn_1 ++ dktX2_goesOn_2
def dkwX2_goesOn_0 : List UInt8 := [42, 27, 42, 180, 0, 66, 28, 46, 42, 180, 0, 72, 28, 46, 42, 180, 0, 87, 28, 46, 128, 182, 1, 193]
abbrev dktX2_goesOn_0 : List UInt8 := dkwX2_goesOn_0 ++ dktX2_goesOn_1
theorem dksX2_goesOn_0 : cX2_goesOn.data.toList.drop 0 = dktX2_goesOn_0 := by decide +kernel
theorem dksX2_goesOn_1 : cX2_goesOn.data.toList.drop 24 = dktX2_goesOn_1 := dk_seg dksX2_goesOn_0 24 rfl rfl
theorem dksX2_goesOn_2 : cX2_goesOn.data.toList.drop 48 = dktX2_goesOn_2 := dk_seg dksX2_goesOn_1 24 rfl rfl
theorem dksX2_goesOn_3 : cX2_goesOn.data.toList.drop 72 = dktX2_goesOn_3 := dk_seg dksX2_goesOn_2 24 rfl rfl
theorem dX2_goesOn_0 : decode cX2_goesOn 0 = .ok (.aload_n 0, 1) := dk_42 (dk_at dksX2_goesOn_0 0 rfl rfl)
theorem dX2_goesOn_1 : decode cX2_goesOn 1 = .ok (.iload_n 1, 1) := dk_27 (dk_at dksX2_goesOn_0 1 rfl rfl)
theorem dX2_goesOn_2 : decode cX2_goesOn 2 = .ok (.aload_n 0, 1) := dk_42 (dk_at dksX2_goesOn_0 2 rfl rfl)
theorem dX2_goesOn_3 : decode cX2_goesOn 3 = .ok (.getfield 66, 3) := dk_180 0 66 (dk_at dksX2_goesOn_0 3 rfl rfl)
theorem dX2_goesOn_6 : decode cX2_goesOn 6 = .ok (.iload_n 2, 1) := dk_28 (dk_at dksX2_goesOn_0 6 rfl rfl)
theorem dX2_goesOn_7 : decode cX2_goesOn 7 = .ok (.iaload, 1) := dk_46 (dk_at dksX2_goesOn_0 7 rfl rfl)
theorem dX2_goesOn_8 : decode cX2_goesOn 8 = .ok (.aload_n 0, 1) := dk_42 (dk_at dksX2_goesOn_0 8 rfl rfl)
theorem dX2_goesOn_9 : decode cX2_goesOn 9 = .ok (.getfield 72, 3) := dk_180 0 72 (dk_at dksX2_goesOn_0 9 rfl rfl)
theorem dX2_goesOn_12 : decode cX2_goesOn 12 = .ok (.iload_n 2, 1) := dk_28 (dk_at dksX2_goesOn_0 12 rfl rfl)
theorem dX2_goesOn_13 : decode cX2_goesOn 13 = .ok (.iaload, 1) := dk_46 (dk_at dksX2_goesOn_0 13 rfl rfl)
theorem dX2_goesOn_14 : decode cX2_goesOn 14 = .ok (.aload_n 0, 1) := dk_42 (dk_at dksX2_goesOn_0 14 rfl rfl)
theorem dX2_goesOn_15 : decode cX2_goesOn 15 = .ok (.getfield 87, 3) := dk_180 0 87 (dk_at dksX2_goesOn_0 15 rfl rfl)
theorem dX2_goesOn_18 : decode cX2_goesOn 18 = .ok (.iload_n 2, 1) := dk_28 (dk_at dksX2_goesOn_0 18 rfl rfl)
theorem dX2_goesOn_19 : decode cX2_goesOn 19 = .ok (.iaload, 1) := dk_46 (dk_at dksX2_goesOn_0 19 rfl rfl)
theorem dX2_goesOn_20 : decode cX2_goesOn 20 = .ok (.ior, 1) := dk_128 (dk_at dksX2_goesOn_0 20 rfl rfl)
theorem dX2_goesOn_21 : decode cX2_goesOn 21 = .ok (.invokevirtual 449, 3) := dk_182 1 193 (dk_at dksX2_goesOn_0 21 rfl rfl)
theorem dX2_goesOn_24 : decode cX2_goesOn 24 = .ok (.istore_n 3, 1) := dk_62 (dk_at dksX2_goesOn_1 0 rfl rfl)
theorem dX2_goesOn_25 : decode cX2_goesOn 25 = .ok (.iload_n 3, 1) := dk_29 (dk_at dksX2_goesOn_1 1 rfl rfl)
theorem dX2_goesOn_26 : decode cX2_goesOn 26 = .ok (.iconst (-1), 1) := dk_2 (dk_at dksX2_goesOn_1 2 rfl rfl)
theorem dX2_goesOn_27 : decode cX2_goesOn 27 = .ok (.if_icmp .ne 5, 3) := dk_160 0 5 (dk_at dksX2_goesOn_1 3 rfl rfl)
theorem dX2_goesOn_30 : decode cX2_goesOn 30 = .ok (.iconst 0, 1) := dk_3 (dk_at dksX2_goesOn_1 6 rfl rfl)
theorem dX2_goesOn_31 : decode cX2_goesOn 31 = .ok (.ireturn, 1) := dk_172 (dk_at dksX2_goesOn_1 7 rfl rfl)
theorem dX2_goesOn_32 : decode cX2_goesOn 32 = .ok (.aload_n 0, 1) := dk_42 (dk_at dksX2_goesOn_1 8 rfl rfl)
theorem dX2_goesOn_33 : decode cX2_goesOn 33 = .ok (.getfield 84, 3) := dk_180 0 84 (dk_at dksX2_goesOn_1 9 rfl rfl)
theorem dX2_goesOn_36 : decode cX2_goesOn 36 = .ok (.iload_n 2, 1) := dk_28 (dk_at dksX2_goesOn_1 12 rfl rfl)
theorem dX2_goesOn_37 : decode cX2_goesOn 37 = .ok (.iload_n 3, 1) := dk_29 (dk_at dksX2_goesOn_1 13 rfl rfl)
theorem dX2_goesOn_38 : decode cX2_goesOn 38 = .ok (.iastore, 1) := dk_79 (dk_at dksX2_goesOn_1 14 rfl rfl)
theorem dX2_goesOn_39 : decode cX2_goesOn 39 = .ok (.aload_n 0, 1) := dk_42 (dk_at dksX2_goesOn_1 15 rfl rfl)
theorem dX2_goesOn_40 : decode cX2_goesOn 40 = .ok (.getfield 87, 3) := dk_180 0 87 (dk_at dksX2_goesOn_1 16 rfl rfl)
theorem dX2_goesOn_43 : decode cX2_goesOn 43 = .ok (.iload_n 2, 1) := dk_28 (dk_at dksX2_goesOn_1 19 rfl rfl)
theorem dX2_goesOn_44 : decode cX2_goesOn 44 = .ok (.dup2, 1) := dk_92 (dk_at dksX2_goesOn_1 20 rfl rfl)
theorem dX2_goesOn_45 : decode cX2_goesOn 45 = .ok (.iaload, 1) := dk_46 (dk_at dksX2_goesOn_1 21 rfl rfl)
theorem dX2_goesOn_46 : decode cX2_goesOn 46 = .ok (.iconst 1, 1) := dk_4 (dk_at dksX2_goesOn_1 22 rfl rfl)
theorem dX2_goesOn_47 : decode cX2_goesOn 47 = .ok (.iload_n 3, 1) := dk_29 (dk_at dksX2_goesOn_1 23 rfl rfl)
theorem dX2_goesOn_48 : decode cX2_goesOn 48 = .ok (.ishl, 1) := dk_120 (dk_at dksX2_goesOn_2 0 rfl rfl)
theorem dX2_goesOn_49 : decode cX2_goesOn 49 = .ok (.ior, 1) := dk_128 (dk_at dksX2_goesOn_2 1 rfl rfl)
theorem dX2_goesOn_50 : decode cX2_goesOn 50 = .ok (.iastore, 1) := dk_79 (dk_at dksX2_goesOn_2 2 rfl rfl)
theorem dX2_goesOn_51 : decode cX2_goesOn 51 = .ok (.aload_n 0, 1) := dk_42 (dk_at dksX2_goesOn_2 3 rfl rfl)
theorem dX2_goesOn_52 : decode cX2_goesOn 52 = .ok (.getfield 90, 3) := dk_180 0 90 (dk_at dksX2_goesOn_2 4 rfl rfl)
theorem dX2_goesOn_55 : decode cX2_goesOn 55 = .ok (.iload_n 2, 1) := dk_28 (dk_at dksX2_goesOn_2 7 rfl rfl)
theorem dX2_goesOn_56 : decode cX2_goesOn 56 = .ok (.aload_n 0, 1) := dk_42 (dk_at dksX2_goesOn_2 8 rfl rfl)
theorem dX2_goesOn_57 : decode cX2_goesOn 57 = .ok (.getfield 384, 3) := dk_180 1 128 (dk_at dksX2_goesOn_2 9 rfl rfl)
theorem dX2_goesOn_60 : decode cX2_goesOn 60 = .ok (.iastore, 1) := dk_79 (dk_at dksX2_goesOn_2 12 rfl rfl)
theorem dX2_goesOn_61 : decode cX2_goesOn 61 = .ok (.aload_n 0, 1) := dk_42 (dk_at dksX2_goesOn_2 13 rfl rfl)
theorem dX2_goesOn_62 : decode cX2_goesOn 62 = .ok (.iconst 0, 1) := dk_3 (dk_at dksX2_goesOn_2 14 rfl rfl)
theorem dX2_goesOn_63 : decode cX2_goesOn 63 = .ok (.iload_n 1, 1) := dk_27 (dk_at dksX2_goesOn_2 15 rfl rfl)
theorem dX2_goesOn_64 : decode cX2_goesOn 64 = .ok (.iload_n 3, 1) := dk_29 (dk_at dksX2_goesOn_2 16 rfl rfl)
theorem dX2_goesOn_65 : decode cX2_goesOn 65 = .ok (.aload_n 0, 1) := dk_42 (dk_at dksX2_goesOn_2 17 rfl rfl)
theorem dX2_goesOn_66 : decode cX2_goesOn 66 = .ok (.getfield 66, 3) := dk_180 0 66 (dk_at dksX2_goesOn_2 18 rfl rfl)
theorem dX2_goesOn_69 : decode cX2_goesOn 69 = .ok (.iload_n 2, 1) := dk_28 (dk_at dksX2_goesOn_2 21 rfl rfl)
theorem dX2_goesOn_70 : decode cX2_goesOn 70 = .ok (.iaload, 1) := dk_46 (dk_at dksX2_goesOn_2 22 rfl rfl)
theorem dX2_goesOn_71 : decode cX2_goesOn 71 = .ok (.aload_n 0, 1) := dk_42 (dk_at dksX2_goesOn_2 23 rfl rfl)
theorem dX2_goesOn_72 : decode cX2_goesOn 72 = .ok (.getfield 69, 3) := dk_180 0 69 (dk_at dksX2_goesOn_3 0 rfl rfl)
theorem dX2_goesOn_75 : decode cX2_goesOn 75 = .ok (.iload_n 2, 1) := dk_28 (dk_at dksX2_goesOn_3 3 rfl rfl)
theorem dX2_goesOn_76 : decode cX2_goesOn 76 = .ok (.iaload, 1) := dk_46 (dk_at dksX2_goesOn_3 4 rfl rfl)
theorem dX2_goesOn_77 : decode cX2_goesOn 77 = .ok (.aload_n 0, 1) := dk_42 (dk_at dksX2_goesOn_3 5 rfl rfl)
theorem dX2_goesOn_78 : decode cX2_goesOn 78 = .ok (.getfield 81, 3) := dk_180 0 81 (dk_at dksX2_goesOn_3 6 rfl rfl)
theorem dX2_goesOn_81 : decode cX2_goesOn 81 = .ok (.iload_n 2, 1) := dk_28 (dk_at dksX2_goesOn_3 9 rfl rfl)
theorem dX2_goesOn_82 : decode cX2_goesOn 82 = .ok (.iaload, 1) := dk_46 (dk_at dksX2_goesOn_3 10 rfl rfl)
theorem dX2_goesOn_83 : decode cX2_goesOn 83 = .ok (.invokevirtual 426, 3) := dk_182 1 170 (dk_at dksX2_goesOn_3 11 rfl rfl)
theorem dX2_goesOn_86 : decode cX2_goesOn 86 = .ok (.iconst 1, 1) := dk_4 (dk_at dksX2_goesOn_3 14 rfl rfl)
theorem dX2_goesOn_87 : decode cX2_goesOn 87 = .ok (.ireturn, 1) := dk_172 (dk_at dksX2_goesOn_3 15 rfl rfl)
abbrev cX2_nextWay : ByteArray := prog_25_method_68_code
def yX2_nextWay : MethodName := ⟨RX2, "nextWay", "(III)I"⟩
def dkwX2_nextWay_7 : List UInt8 := [21, 6, 54, 6, 132, 7, 1, 167, 255, 107, 21, 5, 172]
abbrev dktX2_nextWay_7 : List UInt8 := dkwX2_nextWay_7 ++ []
def dkwX2_nextWay_6 : List UInt8 := [21, 10, 153, 0, 8, 21, 8, 167, 0, 5, 21, 5, 54, 5, 21, 10, 153, 0, 8, 21, 9, 167, 0, 5]
abbrev dktX2_nextWay_6 : List UInt8 := dkwX2_nextWay_6 ++ dktX2_nextWay_7
def dkwX2_nextWay_5 : List UInt8 := [161, 0, 17, 21, 9, 21, 6, 160, 0, 14, 21, 8, 21, 5, 162, 0, 7, 4, 167, 0, 4, 3, 54, 10]
abbrev dktX2_nextWay_5 : List UInt8 := dkwX2_nextWay_5 ++ dktX2_nextWay_6
def dkwX2_nextWay_4 : List UInt8 := [16, 6, 27, 104, 21, 8, 96, 46, 167, 0, 10, 42, 21, 7, 6, 182, 1, 104, 54, 9, 21, 9, 21, 6]
abbrev dktX2_nextWay_4 : List UInt8 := dkwX2_nextWay_4 ++ dktX2_nextWay_5
def dkwX2_nextWay_3 : List UInt8 := [154, 0, 99, 42, 180, 0, 48, 16, 6, 27, 104, 21, 8, 96, 46, 2, 159, 0, 18, 42, 180, 0, 48]
abbrev dktX2_nextWay_3 : List UInt8 := dkwX2_nextWay_3 ++ dktX2_nextWay_4
def dkwX2_nextWay_2 : List UInt8 := [182, 1, 190, 153, 0, 118, 42, 27, 21, 8, 182, 1, 152, 153, 0, 108, 29, 21, 8, 184, 0, 173]
abbrev dktX2_nextWay_2 : List UInt8 := dkwX2_nextWay_2 ++ dktX2_nextWay_3
def dkwX2_nextWay_1 : List UInt8 := [182, 1, 101, 162, 0, 146, 42, 21, 7, 5, 182, 1, 104, 54, 8, 42, 21, 7, 27, 28, 21, 4]
abbrev dktX2_nextWay_1 : List UInt8 := dkwX2_nextWay_1 ++ dktX2_nextWay_2
def dkwX2_nextWay_0 : List UInt8 := [42, 27, 28, 182, 1, 186, 54, 4, 2, 54, 5, 19, 1, 189, 54, 6, 3, 54, 7, 21, 7, 42]
abbrev dktX2_nextWay_0 : List UInt8 := dkwX2_nextWay_0 ++ dktX2_nextWay_1
theorem dksX2_nextWay_0 : cX2_nextWay.data.toList.drop 0 = dktX2_nextWay_0 := by decide +kernel
theorem dksX2_nextWay_1 : cX2_nextWay.data.toList.drop 22 = dktX2_nextWay_1 := dk_seg dksX2_nextWay_0 22 rfl rfl
theorem dksX2_nextWay_2 : cX2_nextWay.data.toList.drop 44 = dktX2_nextWay_2 := dk_seg dksX2_nextWay_1 22 rfl rfl
theorem dksX2_nextWay_3 : cX2_nextWay.data.toList.drop 66 = dktX2_nextWay_3 := dk_seg dksX2_nextWay_2 22 rfl rfl
theorem dksX2_nextWay_4 : cX2_nextWay.data.toList.drop 89 = dktX2_nextWay_4 := dk_seg dksX2_nextWay_3 23 rfl rfl
theorem dksX2_nextWay_5 : cX2_nextWay.data.toList.drop 113 = dktX2_nextWay_5 := dk_seg dksX2_nextWay_4 24 rfl rfl
theorem dksX2_nextWay_6 : cX2_nextWay.data.toList.drop 137 = dktX2_nextWay_6 := dk_seg dksX2_nextWay_5 24 rfl rfl
theorem dksX2_nextWay_7 : cX2_nextWay.data.toList.drop 161 = dktX2_nextWay_7 := dk_seg dksX2_nextWay_6 24 rfl rfl
theorem dX2_nextWay_0 : decode cX2_nextWay 0 = .ok (.aload_n 0, 1) := dk_42 (dk_at dksX2_nextWay_0 0 rfl rfl)
theorem dX2_nextWay_1 : decode cX2_nextWay 1 = .ok (.iload_n 1, 1) := dk_27 (dk_at dksX2_nextWay_0 1 rfl rfl)
theorem dX2_nextWay_2 : decode cX2_nextWay 2 = .ok (.iload_n 2, 1) := dk_28 (dk_at dksX2_nextWay_0 2 rfl rfl)
theorem dX2_nextWay_3 : decode cX2_nextWay 3 = .ok (.invokevirtual 442, 3) := dk_182 1 186 (dk_at dksX2_nextWay_0 3 rfl rfl)
theorem dX2_nextWay_6 : decode cX2_nextWay 6 = .ok (.istore 4, 2) := dk_54 4 (dk_at dksX2_nextWay_0 6 rfl rfl)
theorem dX2_nextWay_8 : decode cX2_nextWay 8 = .ok (.iconst (-1), 1) := dk_2 (dk_at dksX2_nextWay_0 8 rfl rfl)
theorem dX2_nextWay_9 : decode cX2_nextWay 9 = .ok (.istore 5, 2) := dk_54 5 (dk_at dksX2_nextWay_0 9 rfl rfl)
theorem dX2_nextWay_11 : decode cX2_nextWay 11 = .ok (.ldc_w 445, 3) := dk_19 1 189 (dk_at dksX2_nextWay_0 11 rfl rfl)
theorem dX2_nextWay_14 : decode cX2_nextWay 14 = .ok (.istore 6, 2) := dk_54 6 (dk_at dksX2_nextWay_0 14 rfl rfl)
theorem dX2_nextWay_16 : decode cX2_nextWay 16 = .ok (.iconst 0, 1) := dk_3 (dk_at dksX2_nextWay_0 16 rfl rfl)
theorem dX2_nextWay_17 : decode cX2_nextWay 17 = .ok (.istore 7, 2) := dk_54 7 (dk_at dksX2_nextWay_0 17 rfl rfl)
theorem dX2_nextWay_19 : decode cX2_nextWay 19 = .ok (.iload 7, 2) := dk_21 7 (dk_at dksX2_nextWay_0 19 rfl rfl)
theorem dX2_nextWay_21 : decode cX2_nextWay 21 = .ok (.aload_n 0, 1) := dk_42 (dk_at dksX2_nextWay_0 21 rfl rfl)
theorem dX2_nextWay_22 : decode cX2_nextWay 22 = .ok (.invokevirtual 357, 3) := dk_182 1 101 (dk_at dksX2_nextWay_1 0 rfl rfl)
theorem dX2_nextWay_25 : decode cX2_nextWay 25 = .ok (.if_icmp .ge 146, 3) := dk_162 0 146 (dk_at dksX2_nextWay_1 3 rfl rfl)
theorem dX2_nextWay_28 : decode cX2_nextWay 28 = .ok (.aload_n 0, 1) := dk_42 (dk_at dksX2_nextWay_1 6 rfl rfl)
theorem dX2_nextWay_29 : decode cX2_nextWay 29 = .ok (.iload 7, 2) := dk_21 7 (dk_at dksX2_nextWay_1 7 rfl rfl)
theorem dX2_nextWay_31 : decode cX2_nextWay 31 = .ok (.iconst 2, 1) := dk_5 (dk_at dksX2_nextWay_1 9 rfl rfl)
theorem dX2_nextWay_32 : decode cX2_nextWay 32 = .ok (.invokevirtual 360, 3) := dk_182 1 104 (dk_at dksX2_nextWay_1 10 rfl rfl)
theorem dX2_nextWay_35 : decode cX2_nextWay 35 = .ok (.istore 8, 2) := dk_54 8 (dk_at dksX2_nextWay_1 13 rfl rfl)
theorem dX2_nextWay_37 : decode cX2_nextWay 37 = .ok (.aload_n 0, 1) := dk_42 (dk_at dksX2_nextWay_1 15 rfl rfl)
theorem dX2_nextWay_38 : decode cX2_nextWay 38 = .ok (.iload 7, 2) := dk_21 7 (dk_at dksX2_nextWay_1 16 rfl rfl)
theorem dX2_nextWay_40 : decode cX2_nextWay 40 = .ok (.iload_n 1, 1) := dk_27 (dk_at dksX2_nextWay_1 18 rfl rfl)
theorem dX2_nextWay_41 : decode cX2_nextWay 41 = .ok (.iload_n 2, 1) := dk_28 (dk_at dksX2_nextWay_1 19 rfl rfl)
theorem dX2_nextWay_42 : decode cX2_nextWay 42 = .ok (.iload 4, 2) := dk_21 4 (dk_at dksX2_nextWay_1 20 rfl rfl)
theorem dX2_nextWay_44 : decode cX2_nextWay 44 = .ok (.invokevirtual 446, 3) := dk_182 1 190 (dk_at dksX2_nextWay_2 0 rfl rfl)
theorem dX2_nextWay_47 : decode cX2_nextWay 47 = .ok (.ifCond .eq 118, 3) := dk_153 0 118 (dk_at dksX2_nextWay_2 3 rfl rfl)
theorem dX2_nextWay_50 : decode cX2_nextWay 50 = .ok (.aload_n 0, 1) := dk_42 (dk_at dksX2_nextWay_2 6 rfl rfl)
theorem dX2_nextWay_51 : decode cX2_nextWay 51 = .ok (.iload_n 1, 1) := dk_27 (dk_at dksX2_nextWay_2 7 rfl rfl)
theorem dX2_nextWay_52 : decode cX2_nextWay 52 = .ok (.iload 8, 2) := dk_21 8 (dk_at dksX2_nextWay_2 8 rfl rfl)
theorem dX2_nextWay_54 : decode cX2_nextWay 54 = .ok (.invokevirtual 408, 3) := dk_182 1 152 (dk_at dksX2_nextWay_2 10 rfl rfl)
theorem dX2_nextWay_57 : decode cX2_nextWay 57 = .ok (.ifCond .eq 108, 3) := dk_153 0 108 (dk_at dksX2_nextWay_2 13 rfl rfl)
theorem dX2_nextWay_60 : decode cX2_nextWay 60 = .ok (.iload_n 3, 1) := dk_29 (dk_at dksX2_nextWay_2 16 rfl rfl)
theorem dX2_nextWay_61 : decode cX2_nextWay 61 = .ok (.iload 8, 2) := dk_21 8 (dk_at dksX2_nextWay_2 17 rfl rfl)
theorem dX2_nextWay_63 : decode cX2_nextWay 63 = .ok (.invokestatic 173, 3) := dk_184 0 173 (dk_at dksX2_nextWay_2 19 rfl rfl)
theorem dX2_nextWay_66 : decode cX2_nextWay 66 = .ok (.ifCond .ne 99, 3) := dk_154 0 99 (dk_at dksX2_nextWay_3 0 rfl rfl)
theorem dX2_nextWay_69 : decode cX2_nextWay 69 = .ok (.aload_n 0, 1) := dk_42 (dk_at dksX2_nextWay_3 3 rfl rfl)
theorem dX2_nextWay_70 : decode cX2_nextWay 70 = .ok (.getfield 48, 3) := dk_180 0 48 (dk_at dksX2_nextWay_3 4 rfl rfl)
theorem dX2_nextWay_73 : decode cX2_nextWay 73 = .ok (.bipush 6, 2) := dk_16 6 (dk_at dksX2_nextWay_3 7 rfl rfl)
theorem dX2_nextWay_75 : decode cX2_nextWay 75 = .ok (.iload_n 1, 1) := dk_27 (dk_at dksX2_nextWay_3 9 rfl rfl)
theorem dX2_nextWay_76 : decode cX2_nextWay 76 = .ok (.imul, 1) := dk_104 (dk_at dksX2_nextWay_3 10 rfl rfl)
theorem dX2_nextWay_77 : decode cX2_nextWay 77 = .ok (.iload 8, 2) := dk_21 8 (dk_at dksX2_nextWay_3 11 rfl rfl)
theorem dX2_nextWay_79 : decode cX2_nextWay 79 = .ok (.iadd, 1) := dk_96 (dk_at dksX2_nextWay_3 13 rfl rfl)
theorem dX2_nextWay_80 : decode cX2_nextWay 80 = .ok (.iaload, 1) := dk_46 (dk_at dksX2_nextWay_3 14 rfl rfl)
theorem dX2_nextWay_81 : decode cX2_nextWay 81 = .ok (.iconst (-1), 1) := dk_2 (dk_at dksX2_nextWay_3 15 rfl rfl)
theorem dX2_nextWay_82 : decode cX2_nextWay 82 = .ok (.if_icmp .eq 18, 3) := dk_159 0 18 (dk_at dksX2_nextWay_3 16 rfl rfl)
theorem dX2_nextWay_85 : decode cX2_nextWay 85 = .ok (.aload_n 0, 1) := dk_42 (dk_at dksX2_nextWay_3 19 rfl rfl)
theorem dX2_nextWay_86 : decode cX2_nextWay 86 = .ok (.getfield 48, 3) := dk_180 0 48 (dk_at dksX2_nextWay_3 20 rfl rfl)
theorem dX2_nextWay_89 : decode cX2_nextWay 89 = .ok (.bipush 6, 2) := dk_16 6 (dk_at dksX2_nextWay_4 0 rfl rfl)
theorem dX2_nextWay_91 : decode cX2_nextWay 91 = .ok (.iload_n 1, 1) := dk_27 (dk_at dksX2_nextWay_4 2 rfl rfl)
theorem dX2_nextWay_92 : decode cX2_nextWay 92 = .ok (.imul, 1) := dk_104 (dk_at dksX2_nextWay_4 3 rfl rfl)
theorem dX2_nextWay_93 : decode cX2_nextWay 93 = .ok (.iload 8, 2) := dk_21 8 (dk_at dksX2_nextWay_4 4 rfl rfl)
theorem dX2_nextWay_95 : decode cX2_nextWay 95 = .ok (.iadd, 1) := dk_96 (dk_at dksX2_nextWay_4 6 rfl rfl)
theorem dX2_nextWay_96 : decode cX2_nextWay 96 = .ok (.iaload, 1) := dk_46 (dk_at dksX2_nextWay_4 7 rfl rfl)
theorem dX2_nextWay_97 : decode cX2_nextWay 97 = .ok (.goto 10, 3) := dk_167 0 10 (dk_at dksX2_nextWay_4 8 rfl rfl)
theorem dX2_nextWay_100 : decode cX2_nextWay 100 = .ok (.aload_n 0, 1) := dk_42 (dk_at dksX2_nextWay_4 11 rfl rfl)
theorem dX2_nextWay_101 : decode cX2_nextWay 101 = .ok (.iload 7, 2) := dk_21 7 (dk_at dksX2_nextWay_4 12 rfl rfl)
theorem dX2_nextWay_103 : decode cX2_nextWay 103 = .ok (.iconst 3, 1) := dk_6 (dk_at dksX2_nextWay_4 14 rfl rfl)
theorem dX2_nextWay_104 : decode cX2_nextWay 104 = .ok (.invokevirtual 360, 3) := dk_182 1 104 (dk_at dksX2_nextWay_4 15 rfl rfl)
theorem dX2_nextWay_107 : decode cX2_nextWay 107 = .ok (.istore 9, 2) := dk_54 9 (dk_at dksX2_nextWay_4 18 rfl rfl)
theorem dX2_nextWay_109 : decode cX2_nextWay 109 = .ok (.iload 9, 2) := dk_21 9 (dk_at dksX2_nextWay_4 20 rfl rfl)
theorem dX2_nextWay_111 : decode cX2_nextWay 111 = .ok (.iload 6, 2) := dk_21 6 (dk_at dksX2_nextWay_4 22 rfl rfl)
theorem dX2_nextWay_113 : decode cX2_nextWay 113 = .ok (.if_icmp .lt 17, 3) := dk_161 0 17 (dk_at dksX2_nextWay_5 0 rfl rfl)
theorem dX2_nextWay_116 : decode cX2_nextWay 116 = .ok (.iload 9, 2) := dk_21 9 (dk_at dksX2_nextWay_5 3 rfl rfl)
theorem dX2_nextWay_118 : decode cX2_nextWay 118 = .ok (.iload 6, 2) := dk_21 6 (dk_at dksX2_nextWay_5 5 rfl rfl)
theorem dX2_nextWay_120 : decode cX2_nextWay 120 = .ok (.if_icmp .ne 14, 3) := dk_160 0 14 (dk_at dksX2_nextWay_5 7 rfl rfl)
theorem dX2_nextWay_123 : decode cX2_nextWay 123 = .ok (.iload 8, 2) := dk_21 8 (dk_at dksX2_nextWay_5 10 rfl rfl)
theorem dX2_nextWay_125 : decode cX2_nextWay 125 = .ok (.iload 5, 2) := dk_21 5 (dk_at dksX2_nextWay_5 12 rfl rfl)
theorem dX2_nextWay_127 : decode cX2_nextWay 127 = .ok (.if_icmp .ge 7, 3) := dk_162 0 7 (dk_at dksX2_nextWay_5 14 rfl rfl)
theorem dX2_nextWay_130 : decode cX2_nextWay 130 = .ok (.iconst 1, 1) := dk_4 (dk_at dksX2_nextWay_5 17 rfl rfl)
theorem dX2_nextWay_131 : decode cX2_nextWay 131 = .ok (.goto 4, 3) := dk_167 0 4 (dk_at dksX2_nextWay_5 18 rfl rfl)
theorem dX2_nextWay_134 : decode cX2_nextWay 134 = .ok (.iconst 0, 1) := dk_3 (dk_at dksX2_nextWay_5 21 rfl rfl)
theorem dX2_nextWay_135 : decode cX2_nextWay 135 = .ok (.istore 10, 2) := dk_54 10 (dk_at dksX2_nextWay_5 22 rfl rfl)
theorem dX2_nextWay_137 : decode cX2_nextWay 137 = .ok (.iload 10, 2) := dk_21 10 (dk_at dksX2_nextWay_6 0 rfl rfl)
theorem dX2_nextWay_139 : decode cX2_nextWay 139 = .ok (.ifCond .eq 8, 3) := dk_153 0 8 (dk_at dksX2_nextWay_6 2 rfl rfl)
theorem dX2_nextWay_142 : decode cX2_nextWay 142 = .ok (.iload 8, 2) := dk_21 8 (dk_at dksX2_nextWay_6 5 rfl rfl)
theorem dX2_nextWay_144 : decode cX2_nextWay 144 = .ok (.goto 5, 3) := dk_167 0 5 (dk_at dksX2_nextWay_6 7 rfl rfl)
theorem dX2_nextWay_147 : decode cX2_nextWay 147 = .ok (.iload 5, 2) := dk_21 5 (dk_at dksX2_nextWay_6 10 rfl rfl)
theorem dX2_nextWay_149 : decode cX2_nextWay 149 = .ok (.istore 5, 2) := dk_54 5 (dk_at dksX2_nextWay_6 12 rfl rfl)
theorem dX2_nextWay_151 : decode cX2_nextWay 151 = .ok (.iload 10, 2) := dk_21 10 (dk_at dksX2_nextWay_6 14 rfl rfl)
theorem dX2_nextWay_153 : decode cX2_nextWay 153 = .ok (.ifCond .eq 8, 3) := dk_153 0 8 (dk_at dksX2_nextWay_6 16 rfl rfl)
theorem dX2_nextWay_156 : decode cX2_nextWay 156 = .ok (.iload 9, 2) := dk_21 9 (dk_at dksX2_nextWay_6 19 rfl rfl)
theorem dX2_nextWay_158 : decode cX2_nextWay 158 = .ok (.goto 5, 3) := dk_167 0 5 (dk_at dksX2_nextWay_6 21 rfl rfl)
theorem dX2_nextWay_161 : decode cX2_nextWay 161 = .ok (.iload 6, 2) := dk_21 6 (dk_at dksX2_nextWay_7 0 rfl rfl)
theorem dX2_nextWay_163 : decode cX2_nextWay 163 = .ok (.istore 6, 2) := dk_54 6 (dk_at dksX2_nextWay_7 2 rfl rfl)
theorem dX2_nextWay_165 : decode cX2_nextWay 165 = .ok (.iinc 7 1, 3) := dk_132 7 1 (dk_at dksX2_nextWay_7 4 rfl rfl)
theorem dX2_nextWay_168 : decode cX2_nextWay 168 = .ok (.goto (-149), 3) := dk_167 255 107 (dk_at dksX2_nextWay_7 7 rfl rfl)
theorem dX2_nextWay_171 : decode cX2_nextWay 171 = .ok (.iload 5, 2) := dk_21 5 (dk_at dksX2_nextWay_7 10 rfl rfl)
theorem dX2_nextWay_173 : decode cX2_nextWay 173 = .ok (.ireturn, 1) := dk_172 (dk_at dksX2_nextWay_7 12 rfl rfl)
abbrev cX2_longestAt : ByteArray := prog_25_method_50_code
def yX2_longestAt : MethodName := ⟨RX2, "longestAt", "(II)I"⟩
def dkwX2_longestAt_3 : List UInt8 := [132, 4, 1, 167, 255, 188, 29, 172]
abbrev dktX2_longestAt_3 : List UInt8 := dkwX2_longestAt_3 ++ []
def dkwX2_longestAt_2 : List UInt8 := [21, 5, 153, 0, 20, 29, 42, 21, 4, 4, 182, 1, 104, 184, 1, 98, 184, 0, 243, 167, 0, 4, 29, 62]
abbrev dktX2_longestAt_2 : List UInt8 := dkwX2_longestAt_2 ++ dktX2_longestAt_3
def dkwX2_longestAt_1 : List UInt8 := [160, 0, 21, 42, 21, 4, 4, 182, 1, 104, 28, 184, 1, 107, 153, 0, 7, 4, 167, 0, 4, 3, 54, 5]
abbrev dktX2_longestAt_1 : List UInt8 := dkwX2_longestAt_1 ++ dktX2_longestAt_2
def dkwX2_longestAt_0 : List UInt8 := [3, 62, 3, 54, 4, 21, 4, 42, 182, 1, 101, 162, 0, 65, 42, 21, 4, 3, 182, 1, 104, 27]
abbrev dktX2_longestAt_0 : List UInt8 := dkwX2_longestAt_0 ++ dktX2_longestAt_1
theorem dksX2_longestAt_0 : cX2_longestAt.data.toList.drop 0 = dktX2_longestAt_0 := by decide +kernel
theorem dksX2_longestAt_1 : cX2_longestAt.data.toList.drop 22 = dktX2_longestAt_1 := dk_seg dksX2_longestAt_0 22 rfl rfl
theorem dksX2_longestAt_2 : cX2_longestAt.data.toList.drop 46 = dktX2_longestAt_2 := dk_seg dksX2_longestAt_1 24 rfl rfl
theorem dksX2_longestAt_3 : cX2_longestAt.data.toList.drop 70 = dktX2_longestAt_3 := dk_seg dksX2_longestAt_2 24 rfl rfl
theorem dX2_longestAt_0 : decode cX2_longestAt 0 = .ok (.iconst 0, 1) := dk_3 (dk_at dksX2_longestAt_0 0 rfl rfl)
theorem dX2_longestAt_1 : decode cX2_longestAt 1 = .ok (.istore_n 3, 1) := dk_62 (dk_at dksX2_longestAt_0 1 rfl rfl)
theorem dX2_longestAt_2 : decode cX2_longestAt 2 = .ok (.iconst 0, 1) := dk_3 (dk_at dksX2_longestAt_0 2 rfl rfl)
theorem dX2_longestAt_3 : decode cX2_longestAt 3 = .ok (.istore 4, 2) := dk_54 4 (dk_at dksX2_longestAt_0 3 rfl rfl)
theorem dX2_longestAt_5 : decode cX2_longestAt 5 = .ok (.iload 4, 2) := dk_21 4 (dk_at dksX2_longestAt_0 5 rfl rfl)
theorem dX2_longestAt_7 : decode cX2_longestAt 7 = .ok (.aload_n 0, 1) := dk_42 (dk_at dksX2_longestAt_0 7 rfl rfl)
theorem dX2_longestAt_8 : decode cX2_longestAt 8 = .ok (.invokevirtual 357, 3) := dk_182 1 101 (dk_at dksX2_longestAt_0 8 rfl rfl)
theorem dX2_longestAt_11 : decode cX2_longestAt 11 = .ok (.if_icmp .ge 65, 3) := dk_162 0 65 (dk_at dksX2_longestAt_0 11 rfl rfl)
theorem dX2_longestAt_14 : decode cX2_longestAt 14 = .ok (.aload_n 0, 1) := dk_42 (dk_at dksX2_longestAt_0 14 rfl rfl)
theorem dX2_longestAt_15 : decode cX2_longestAt 15 = .ok (.iload 4, 2) := dk_21 4 (dk_at dksX2_longestAt_0 15 rfl rfl)
theorem dX2_longestAt_17 : decode cX2_longestAt 17 = .ok (.iconst 0, 1) := dk_3 (dk_at dksX2_longestAt_0 17 rfl rfl)
theorem dX2_longestAt_18 : decode cX2_longestAt 18 = .ok (.invokevirtual 360, 3) := dk_182 1 104 (dk_at dksX2_longestAt_0 18 rfl rfl)
theorem dX2_longestAt_21 : decode cX2_longestAt 21 = .ok (.iload_n 1, 1) := dk_27 (dk_at dksX2_longestAt_0 21 rfl rfl)
theorem dX2_longestAt_22 : decode cX2_longestAt 22 = .ok (.if_icmp .ne 21, 3) := dk_160 0 21 (dk_at dksX2_longestAt_1 0 rfl rfl)
theorem dX2_longestAt_25 : decode cX2_longestAt 25 = .ok (.aload_n 0, 1) := dk_42 (dk_at dksX2_longestAt_1 3 rfl rfl)
theorem dX2_longestAt_26 : decode cX2_longestAt 26 = .ok (.iload 4, 2) := dk_21 4 (dk_at dksX2_longestAt_1 4 rfl rfl)
theorem dX2_longestAt_28 : decode cX2_longestAt 28 = .ok (.iconst 1, 1) := dk_4 (dk_at dksX2_longestAt_1 6 rfl rfl)
theorem dX2_longestAt_29 : decode cX2_longestAt 29 = .ok (.invokevirtual 360, 3) := dk_182 1 104 (dk_at dksX2_longestAt_1 7 rfl rfl)
theorem dX2_longestAt_32 : decode cX2_longestAt 32 = .ok (.iload_n 2, 1) := dk_28 (dk_at dksX2_longestAt_1 10 rfl rfl)
theorem dX2_longestAt_33 : decode cX2_longestAt 33 = .ok (.invokestatic 363, 3) := dk_184 1 107 (dk_at dksX2_longestAt_1 11 rfl rfl)
theorem dX2_longestAt_36 : decode cX2_longestAt 36 = .ok (.ifCond .eq 7, 3) := dk_153 0 7 (dk_at dksX2_longestAt_1 14 rfl rfl)
theorem dX2_longestAt_39 : decode cX2_longestAt 39 = .ok (.iconst 1, 1) := dk_4 (dk_at dksX2_longestAt_1 17 rfl rfl)
theorem dX2_longestAt_40 : decode cX2_longestAt 40 = .ok (.goto 4, 3) := dk_167 0 4 (dk_at dksX2_longestAt_1 18 rfl rfl)
theorem dX2_longestAt_43 : decode cX2_longestAt 43 = .ok (.iconst 0, 1) := dk_3 (dk_at dksX2_longestAt_1 21 rfl rfl)
theorem dX2_longestAt_44 : decode cX2_longestAt 44 = .ok (.istore 5, 2) := dk_54 5 (dk_at dksX2_longestAt_1 22 rfl rfl)
theorem dX2_longestAt_46 : decode cX2_longestAt 46 = .ok (.iload 5, 2) := dk_21 5 (dk_at dksX2_longestAt_2 0 rfl rfl)
theorem dX2_longestAt_48 : decode cX2_longestAt 48 = .ok (.ifCond .eq 20, 3) := dk_153 0 20 (dk_at dksX2_longestAt_2 2 rfl rfl)
theorem dX2_longestAt_51 : decode cX2_longestAt 51 = .ok (.iload_n 3, 1) := dk_29 (dk_at dksX2_longestAt_2 5 rfl rfl)
theorem dX2_longestAt_52 : decode cX2_longestAt 52 = .ok (.aload_n 0, 1) := dk_42 (dk_at dksX2_longestAt_2 6 rfl rfl)
theorem dX2_longestAt_53 : decode cX2_longestAt 53 = .ok (.iload 4, 2) := dk_21 4 (dk_at dksX2_longestAt_2 7 rfl rfl)
theorem dX2_longestAt_55 : decode cX2_longestAt 55 = .ok (.iconst 1, 1) := dk_4 (dk_at dksX2_longestAt_2 9 rfl rfl)
theorem dX2_longestAt_56 : decode cX2_longestAt 56 = .ok (.invokevirtual 360, 3) := dk_182 1 104 (dk_at dksX2_longestAt_2 10 rfl rfl)
theorem dX2_longestAt_59 : decode cX2_longestAt 59 = .ok (.invokestatic 354, 3) := dk_184 1 98 (dk_at dksX2_longestAt_2 13 rfl rfl)
theorem dX2_longestAt_62 : decode cX2_longestAt 62 = .ok (.invokestatic 243, 3) := dk_184 0 243 (dk_at dksX2_longestAt_2 16 rfl rfl)
theorem dX2_longestAt_65 : decode cX2_longestAt 65 = .ok (.goto 4, 3) := dk_167 0 4 (dk_at dksX2_longestAt_2 19 rfl rfl)
theorem dX2_longestAt_68 : decode cX2_longestAt 68 = .ok (.iload_n 3, 1) := dk_29 (dk_at dksX2_longestAt_2 22 rfl rfl)
theorem dX2_longestAt_69 : decode cX2_longestAt 69 = .ok (.istore_n 3, 1) := dk_62 (dk_at dksX2_longestAt_2 23 rfl rfl)
theorem dX2_longestAt_70 : decode cX2_longestAt 70 = .ok (.iinc 4 1, 3) := dk_132 4 1 (dk_at dksX2_longestAt_3 0 rfl rfl)
theorem dX2_longestAt_73 : decode cX2_longestAt 73 = .ok (.goto (-68), 3) := dk_167 255 188 (dk_at dksX2_longestAt_3 3 rfl rfl)
theorem dX2_longestAt_76 : decode cX2_longestAt 76 = .ok (.iload_n 3, 1) := dk_29 (dk_at dksX2_longestAt_3 6 rfl rfl)
theorem dX2_longestAt_77 : decode cX2_longestAt 77 = .ok (.ireturn, 1) := dk_172 (dk_at dksX2_longestAt_3 7 rfl rfl)
abbrev cX2_isRoute : ByteArray := prog_25_method_51_code
def yX2_isRoute : MethodName := ⟨RX2, "isRoute", "(IIII)Z"⟩
def dkwX2_isRoute_1 : List UInt8 := [42, 27, 4, 182, 1, 104, 29, 184, 1, 107, 153, 0, 7, 4, 167, 0, 4, 3, 172]
abbrev dktX2_isRoute_1 : List UInt8 := dkwX2_isRoute_1 ++ []
def dkwX2_isRoute_0 : List UInt8 := [42, 27, 3, 182, 1, 104, 28, 160, 0, 34, 42, 27, 4, 182, 1, 104, 184, 1, 98, 21, 4, 160, 0, 20]
abbrev dktX2_isRoute_0 : List UInt8 := dkwX2_isRoute_0 ++ dktX2_isRoute_1
theorem dksX2_isRoute_0 : cX2_isRoute.data.toList.drop 0 = dktX2_isRoute_0 := by decide +kernel
theorem dksX2_isRoute_1 : cX2_isRoute.data.toList.drop 24 = dktX2_isRoute_1 := dk_seg dksX2_isRoute_0 24 rfl rfl
theorem dX2_isRoute_0 : decode cX2_isRoute 0 = .ok (.aload_n 0, 1) := dk_42 (dk_at dksX2_isRoute_0 0 rfl rfl)
theorem dX2_isRoute_1 : decode cX2_isRoute 1 = .ok (.iload_n 1, 1) := dk_27 (dk_at dksX2_isRoute_0 1 rfl rfl)
theorem dX2_isRoute_2 : decode cX2_isRoute 2 = .ok (.iconst 0, 1) := dk_3 (dk_at dksX2_isRoute_0 2 rfl rfl)
theorem dX2_isRoute_3 : decode cX2_isRoute 3 = .ok (.invokevirtual 360, 3) := dk_182 1 104 (dk_at dksX2_isRoute_0 3 rfl rfl)
theorem dX2_isRoute_6 : decode cX2_isRoute 6 = .ok (.iload_n 2, 1) := dk_28 (dk_at dksX2_isRoute_0 6 rfl rfl)
theorem dX2_isRoute_7 : decode cX2_isRoute 7 = .ok (.if_icmp .ne 34, 3) := dk_160 0 34 (dk_at dksX2_isRoute_0 7 rfl rfl)
theorem dX2_isRoute_10 : decode cX2_isRoute 10 = .ok (.aload_n 0, 1) := dk_42 (dk_at dksX2_isRoute_0 10 rfl rfl)
theorem dX2_isRoute_11 : decode cX2_isRoute 11 = .ok (.iload_n 1, 1) := dk_27 (dk_at dksX2_isRoute_0 11 rfl rfl)
theorem dX2_isRoute_12 : decode cX2_isRoute 12 = .ok (.iconst 1, 1) := dk_4 (dk_at dksX2_isRoute_0 12 rfl rfl)
theorem dX2_isRoute_13 : decode cX2_isRoute 13 = .ok (.invokevirtual 360, 3) := dk_182 1 104 (dk_at dksX2_isRoute_0 13 rfl rfl)
theorem dX2_isRoute_16 : decode cX2_isRoute 16 = .ok (.invokestatic 354, 3) := dk_184 1 98 (dk_at dksX2_isRoute_0 16 rfl rfl)
theorem dX2_isRoute_19 : decode cX2_isRoute 19 = .ok (.iload 4, 2) := dk_21 4 (dk_at dksX2_isRoute_0 19 rfl rfl)
theorem dX2_isRoute_21 : decode cX2_isRoute 21 = .ok (.if_icmp .ne 20, 3) := dk_160 0 20 (dk_at dksX2_isRoute_0 21 rfl rfl)
theorem dX2_isRoute_24 : decode cX2_isRoute 24 = .ok (.aload_n 0, 1) := dk_42 (dk_at dksX2_isRoute_1 0 rfl rfl)
theorem dX2_isRoute_25 : decode cX2_isRoute 25 = .ok (.iload_n 1, 1) := dk_27 (dk_at dksX2_isRoute_1 1 rfl rfl)
theorem dX2_isRoute_26 : decode cX2_isRoute 26 = .ok (.iconst 1, 1) := dk_4 (dk_at dksX2_isRoute_1 2 rfl rfl)
theorem dX2_isRoute_27 : decode cX2_isRoute 27 = .ok (.invokevirtual 360, 3) := dk_182 1 104 (dk_at dksX2_isRoute_1 3 rfl rfl)
theorem dX2_isRoute_30 : decode cX2_isRoute 30 = .ok (.iload_n 3, 1) := dk_29 (dk_at dksX2_isRoute_1 6 rfl rfl)
theorem dX2_isRoute_31 : decode cX2_isRoute 31 = .ok (.invokestatic 363, 3) := dk_184 1 107 (dk_at dksX2_isRoute_1 7 rfl rfl)
theorem dX2_isRoute_34 : decode cX2_isRoute 34 = .ok (.ifCond .eq 7, 3) := dk_153 0 7 (dk_at dksX2_isRoute_1 10 rfl rfl)
theorem dX2_isRoute_37 : decode cX2_isRoute 37 = .ok (.iconst 1, 1) := dk_4 (dk_at dksX2_isRoute_1 13 rfl rfl)
theorem dX2_isRoute_38 : decode cX2_isRoute 38 = .ok (.goto 4, 3) := dk_167 0 4 (dk_at dksX2_isRoute_1 14 rfl rfl)
theorem dX2_isRoute_41 : decode cX2_isRoute 41 = .ok (.iconst 0, 1) := dk_3 (dk_at dksX2_isRoute_1 17 rfl rfl)
theorem dX2_isRoute_42 : decode cX2_isRoute 42 = .ok (.ireturn, 1) := dk_172 (dk_at dksX2_isRoute_1 18 rfl rfl)
abbrev cX2_removes : ByteArray := prog_25_method_66_code
def yX2_removes : MethodName := ⟨RX2, "removes", "(II)V"⟩
def dkwX2_removes_7 : List UInt8 := [96, 46, 79, 132, 3, 1, 167, 255, 98, 177]
abbrev dktX2_removes_7 : List UInt8 := dkwX2_removes_7 ++ []
def dkwX2_removes_6 : List UInt8 := [180, 0, 90, 29, 42, 180, 0, 90, 29, 4, 96, 46, 79, 42, 180, 0, 93, 29, 42, 180, 0, 93, 29, 4]
abbrev dktX2_removes_6 : List UInt8 := dkwX2_removes_6 ++ dktX2_removes_7
def dkwX2_removes_5 : List UInt8 := [180, 0, 84, 29, 4, 96, 46, 79, 42, 180, 0, 87, 29, 42, 180, 0, 87, 29, 4, 96, 46, 79, 42]
abbrev dktX2_removes_5 : List UInt8 := dkwX2_removes_5 ++ dktX2_removes_6
def dkwX2_removes_4 : List UInt8 := [96, 47, 80, 42, 180, 0, 81, 29, 42, 180, 0, 81, 29, 4, 96, 46, 79, 42, 180, 0, 84, 29, 42]
abbrev dktX2_removes_4 : List UInt8 := dkwX2_removes_4 ++ dktX2_removes_5
def dkwX2_removes_3 : List UInt8 := [180, 0, 75, 29, 42, 180, 0, 75, 29, 4, 96, 47, 80, 42, 180, 0, 78, 29, 42, 180, 0, 78, 29, 4]
abbrev dktX2_removes_3 : List UInt8 := dkwX2_removes_3 ++ dktX2_removes_4
def dkwX2_removes_2 : List UInt8 := [180, 0, 69, 29, 4, 96, 46, 79, 42, 180, 0, 72, 29, 42, 180, 0, 72, 29, 4, 96, 46, 79, 42]
abbrev dktX2_removes_2 : List UInt8 := dkwX2_removes_2 ++ dktX2_removes_3
def dkwX2_removes_1 : List UInt8 := [162, 0, 149, 42, 180, 0, 66, 29, 42, 180, 0, 66, 29, 4, 96, 46, 79, 42, 180, 0, 69, 29, 42]
abbrev dktX2_removes_1 : List UInt8 := dkwX2_removes_1 ++ dktX2_removes_2
def dkwX2_removes_0 : List UInt8 := [42, 180, 0, 63, 27, 92, 46, 4, 100, 79, 28, 62, 29, 16, 64, 27, 104, 42, 180, 0, 63, 27, 46, 96]
abbrev dktX2_removes_0 : List UInt8 := dkwX2_removes_0 ++ dktX2_removes_1
theorem dksX2_removes_0 : cX2_removes.data.toList.drop 0 = dktX2_removes_0 := by decide +kernel
theorem dksX2_removes_1 : cX2_removes.data.toList.drop 24 = dktX2_removes_1 := dk_seg dksX2_removes_0 24 rfl rfl
theorem dksX2_removes_2 : cX2_removes.data.toList.drop 47 = dktX2_removes_2 := dk_seg dksX2_removes_1 23 rfl rfl
theorem dksX2_removes_3 : cX2_removes.data.toList.drop 70 = dktX2_removes_3 := dk_seg dksX2_removes_2 23 rfl rfl
theorem dksX2_removes_4 : cX2_removes.data.toList.drop 94 = dktX2_removes_4 := dk_seg dksX2_removes_3 24 rfl rfl
theorem dksX2_removes_5 : cX2_removes.data.toList.drop 117 = dktX2_removes_5 := dk_seg dksX2_removes_4 23 rfl rfl
theorem dksX2_removes_6 : cX2_removes.data.toList.drop 140 = dktX2_removes_6 := dk_seg dksX2_removes_5 23 rfl rfl
theorem dksX2_removes_7 : cX2_removes.data.toList.drop 164 = dktX2_removes_7 := dk_seg dksX2_removes_6 24 rfl rfl
theorem dX2_removes_0 : decode cX2_removes 0 = .ok (.aload_n 0, 1) := dk_42 (dk_at dksX2_removes_0 0 rfl rfl)
theorem dX2_removes_1 : decode cX2_removes 1 = .ok (.getfield 63, 3) := dk_180 0 63 (dk_at dksX2_removes_0 1 rfl rfl)
theorem dX2_removes_4 : decode cX2_removes 4 = .ok (.iload_n 1, 1) := dk_27 (dk_at dksX2_removes_0 4 rfl rfl)
theorem dX2_removes_5 : decode cX2_removes 5 = .ok (.dup2, 1) := dk_92 (dk_at dksX2_removes_0 5 rfl rfl)
theorem dX2_removes_6 : decode cX2_removes 6 = .ok (.iaload, 1) := dk_46 (dk_at dksX2_removes_0 6 rfl rfl)
theorem dX2_removes_7 : decode cX2_removes 7 = .ok (.iconst 1, 1) := dk_4 (dk_at dksX2_removes_0 7 rfl rfl)
theorem dX2_removes_8 : decode cX2_removes 8 = .ok (.isub, 1) := dk_100 (dk_at dksX2_removes_0 8 rfl rfl)
theorem dX2_removes_9 : decode cX2_removes 9 = .ok (.iastore, 1) := dk_79 (dk_at dksX2_removes_0 9 rfl rfl)
theorem dX2_removes_10 : decode cX2_removes 10 = .ok (.iload_n 2, 1) := dk_28 (dk_at dksX2_removes_0 10 rfl rfl)
theorem dX2_removes_11 : decode cX2_removes 11 = .ok (.istore_n 3, 1) := dk_62 (dk_at dksX2_removes_0 11 rfl rfl)
theorem dX2_removes_12 : decode cX2_removes 12 = .ok (.iload_n 3, 1) := dk_29 (dk_at dksX2_removes_0 12 rfl rfl)
theorem dX2_removes_13 : decode cX2_removes 13 = .ok (.bipush 64, 2) := dk_16 64 (dk_at dksX2_removes_0 13 rfl rfl)
theorem dX2_removes_15 : decode cX2_removes 15 = .ok (.iload_n 1, 1) := dk_27 (dk_at dksX2_removes_0 15 rfl rfl)
theorem dX2_removes_16 : decode cX2_removes 16 = .ok (.imul, 1) := dk_104 (dk_at dksX2_removes_0 16 rfl rfl)
theorem dX2_removes_17 : decode cX2_removes 17 = .ok (.aload_n 0, 1) := dk_42 (dk_at dksX2_removes_0 17 rfl rfl)
theorem dX2_removes_18 : decode cX2_removes 18 = .ok (.getfield 63, 3) := dk_180 0 63 (dk_at dksX2_removes_0 18 rfl rfl)
theorem dX2_removes_21 : decode cX2_removes 21 = .ok (.iload_n 1, 1) := dk_27 (dk_at dksX2_removes_0 21 rfl rfl)
theorem dX2_removes_22 : decode cX2_removes 22 = .ok (.iaload, 1) := dk_46 (dk_at dksX2_removes_0 22 rfl rfl)
theorem dX2_removes_23 : decode cX2_removes 23 = .ok (.iadd, 1) := dk_96 (dk_at dksX2_removes_0 23 rfl rfl)
theorem dX2_removes_24 : decode cX2_removes 24 = .ok (.if_icmp .ge 149, 3) := dk_162 0 149 (dk_at dksX2_removes_1 0 rfl rfl)
theorem dX2_removes_27 : decode cX2_removes 27 = .ok (.aload_n 0, 1) := dk_42 (dk_at dksX2_removes_1 3 rfl rfl)
theorem dX2_removes_28 : decode cX2_removes 28 = .ok (.getfield 66, 3) := dk_180 0 66 (dk_at dksX2_removes_1 4 rfl rfl)
theorem dX2_removes_31 : decode cX2_removes 31 = .ok (.iload_n 3, 1) := dk_29 (dk_at dksX2_removes_1 7 rfl rfl)
theorem dX2_removes_32 : decode cX2_removes 32 = .ok (.aload_n 0, 1) := dk_42 (dk_at dksX2_removes_1 8 rfl rfl)
theorem dX2_removes_33 : decode cX2_removes 33 = .ok (.getfield 66, 3) := dk_180 0 66 (dk_at dksX2_removes_1 9 rfl rfl)
theorem dX2_removes_36 : decode cX2_removes 36 = .ok (.iload_n 3, 1) := dk_29 (dk_at dksX2_removes_1 12 rfl rfl)
theorem dX2_removes_37 : decode cX2_removes 37 = .ok (.iconst 1, 1) := dk_4 (dk_at dksX2_removes_1 13 rfl rfl)
theorem dX2_removes_38 : decode cX2_removes 38 = .ok (.iadd, 1) := dk_96 (dk_at dksX2_removes_1 14 rfl rfl)
theorem dX2_removes_39 : decode cX2_removes 39 = .ok (.iaload, 1) := dk_46 (dk_at dksX2_removes_1 15 rfl rfl)
theorem dX2_removes_40 : decode cX2_removes 40 = .ok (.iastore, 1) := dk_79 (dk_at dksX2_removes_1 16 rfl rfl)
theorem dX2_removes_41 : decode cX2_removes 41 = .ok (.aload_n 0, 1) := dk_42 (dk_at dksX2_removes_1 17 rfl rfl)
theorem dX2_removes_42 : decode cX2_removes 42 = .ok (.getfield 69, 3) := dk_180 0 69 (dk_at dksX2_removes_1 18 rfl rfl)
theorem dX2_removes_45 : decode cX2_removes 45 = .ok (.iload_n 3, 1) := dk_29 (dk_at dksX2_removes_1 21 rfl rfl)
theorem dX2_removes_46 : decode cX2_removes 46 = .ok (.aload_n 0, 1) := dk_42 (dk_at dksX2_removes_1 22 rfl rfl)
theorem dX2_removes_47 : decode cX2_removes 47 = .ok (.getfield 69, 3) := dk_180 0 69 (dk_at dksX2_removes_2 0 rfl rfl)
theorem dX2_removes_50 : decode cX2_removes 50 = .ok (.iload_n 3, 1) := dk_29 (dk_at dksX2_removes_2 3 rfl rfl)
theorem dX2_removes_51 : decode cX2_removes 51 = .ok (.iconst 1, 1) := dk_4 (dk_at dksX2_removes_2 4 rfl rfl)
theorem dX2_removes_52 : decode cX2_removes 52 = .ok (.iadd, 1) := dk_96 (dk_at dksX2_removes_2 5 rfl rfl)
theorem dX2_removes_53 : decode cX2_removes 53 = .ok (.iaload, 1) := dk_46 (dk_at dksX2_removes_2 6 rfl rfl)
theorem dX2_removes_54 : decode cX2_removes 54 = .ok (.iastore, 1) := dk_79 (dk_at dksX2_removes_2 7 rfl rfl)
theorem dX2_removes_55 : decode cX2_removes 55 = .ok (.aload_n 0, 1) := dk_42 (dk_at dksX2_removes_2 8 rfl rfl)
theorem dX2_removes_56 : decode cX2_removes 56 = .ok (.getfield 72, 3) := dk_180 0 72 (dk_at dksX2_removes_2 9 rfl rfl)
theorem dX2_removes_59 : decode cX2_removes 59 = .ok (.iload_n 3, 1) := dk_29 (dk_at dksX2_removes_2 12 rfl rfl)
theorem dX2_removes_60 : decode cX2_removes 60 = .ok (.aload_n 0, 1) := dk_42 (dk_at dksX2_removes_2 13 rfl rfl)
theorem dX2_removes_61 : decode cX2_removes 61 = .ok (.getfield 72, 3) := dk_180 0 72 (dk_at dksX2_removes_2 14 rfl rfl)
theorem dX2_removes_64 : decode cX2_removes 64 = .ok (.iload_n 3, 1) := dk_29 (dk_at dksX2_removes_2 17 rfl rfl)
theorem dX2_removes_65 : decode cX2_removes 65 = .ok (.iconst 1, 1) := dk_4 (dk_at dksX2_removes_2 18 rfl rfl)
theorem dX2_removes_66 : decode cX2_removes 66 = .ok (.iadd, 1) := dk_96 (dk_at dksX2_removes_2 19 rfl rfl)
theorem dX2_removes_67 : decode cX2_removes 67 = .ok (.iaload, 1) := dk_46 (dk_at dksX2_removes_2 20 rfl rfl)
theorem dX2_removes_68 : decode cX2_removes 68 = .ok (.iastore, 1) := dk_79 (dk_at dksX2_removes_2 21 rfl rfl)
theorem dX2_removes_69 : decode cX2_removes 69 = .ok (.aload_n 0, 1) := dk_42 (dk_at dksX2_removes_2 22 rfl rfl)
theorem dX2_removes_70 : decode cX2_removes 70 = .ok (.getfield 75, 3) := dk_180 0 75 (dk_at dksX2_removes_3 0 rfl rfl)
theorem dX2_removes_73 : decode cX2_removes 73 = .ok (.iload_n 3, 1) := dk_29 (dk_at dksX2_removes_3 3 rfl rfl)
theorem dX2_removes_74 : decode cX2_removes 74 = .ok (.aload_n 0, 1) := dk_42 (dk_at dksX2_removes_3 4 rfl rfl)
theorem dX2_removes_75 : decode cX2_removes 75 = .ok (.getfield 75, 3) := dk_180 0 75 (dk_at dksX2_removes_3 5 rfl rfl)
theorem dX2_removes_78 : decode cX2_removes 78 = .ok (.iload_n 3, 1) := dk_29 (dk_at dksX2_removes_3 8 rfl rfl)
theorem dX2_removes_79 : decode cX2_removes 79 = .ok (.iconst 1, 1) := dk_4 (dk_at dksX2_removes_3 9 rfl rfl)
theorem dX2_removes_80 : decode cX2_removes 80 = .ok (.iadd, 1) := dk_96 (dk_at dksX2_removes_3 10 rfl rfl)
theorem dX2_removes_81 : decode cX2_removes 81 = .ok (.laload, 1) := dk_47 (dk_at dksX2_removes_3 11 rfl rfl)
theorem dX2_removes_82 : decode cX2_removes 82 = .ok (.lastore, 1) := dk_80 (dk_at dksX2_removes_3 12 rfl rfl)
theorem dX2_removes_83 : decode cX2_removes 83 = .ok (.aload_n 0, 1) := dk_42 (dk_at dksX2_removes_3 13 rfl rfl)
theorem dX2_removes_84 : decode cX2_removes 84 = .ok (.getfield 78, 3) := dk_180 0 78 (dk_at dksX2_removes_3 14 rfl rfl)
theorem dX2_removes_87 : decode cX2_removes 87 = .ok (.iload_n 3, 1) := dk_29 (dk_at dksX2_removes_3 17 rfl rfl)
theorem dX2_removes_88 : decode cX2_removes 88 = .ok (.aload_n 0, 1) := dk_42 (dk_at dksX2_removes_3 18 rfl rfl)
theorem dX2_removes_89 : decode cX2_removes 89 = .ok (.getfield 78, 3) := dk_180 0 78 (dk_at dksX2_removes_3 19 rfl rfl)
theorem dX2_removes_92 : decode cX2_removes 92 = .ok (.iload_n 3, 1) := dk_29 (dk_at dksX2_removes_3 22 rfl rfl)
theorem dX2_removes_93 : decode cX2_removes 93 = .ok (.iconst 1, 1) := dk_4 (dk_at dksX2_removes_3 23 rfl rfl)
theorem dX2_removes_94 : decode cX2_removes 94 = .ok (.iadd, 1) := dk_96 (dk_at dksX2_removes_4 0 rfl rfl)
theorem dX2_removes_95 : decode cX2_removes 95 = .ok (.laload, 1) := dk_47 (dk_at dksX2_removes_4 1 rfl rfl)
theorem dX2_removes_96 : decode cX2_removes 96 = .ok (.lastore, 1) := dk_80 (dk_at dksX2_removes_4 2 rfl rfl)
theorem dX2_removes_97 : decode cX2_removes 97 = .ok (.aload_n 0, 1) := dk_42 (dk_at dksX2_removes_4 3 rfl rfl)
theorem dX2_removes_98 : decode cX2_removes 98 = .ok (.getfield 81, 3) := dk_180 0 81 (dk_at dksX2_removes_4 4 rfl rfl)
theorem dX2_removes_101 : decode cX2_removes 101 = .ok (.iload_n 3, 1) := dk_29 (dk_at dksX2_removes_4 7 rfl rfl)
theorem dX2_removes_102 : decode cX2_removes 102 = .ok (.aload_n 0, 1) := dk_42 (dk_at dksX2_removes_4 8 rfl rfl)
theorem dX2_removes_103 : decode cX2_removes 103 = .ok (.getfield 81, 3) := dk_180 0 81 (dk_at dksX2_removes_4 9 rfl rfl)
theorem dX2_removes_106 : decode cX2_removes 106 = .ok (.iload_n 3, 1) := dk_29 (dk_at dksX2_removes_4 12 rfl rfl)
theorem dX2_removes_107 : decode cX2_removes 107 = .ok (.iconst 1, 1) := dk_4 (dk_at dksX2_removes_4 13 rfl rfl)
theorem dX2_removes_108 : decode cX2_removes 108 = .ok (.iadd, 1) := dk_96 (dk_at dksX2_removes_4 14 rfl rfl)
theorem dX2_removes_109 : decode cX2_removes 109 = .ok (.iaload, 1) := dk_46 (dk_at dksX2_removes_4 15 rfl rfl)
theorem dX2_removes_110 : decode cX2_removes 110 = .ok (.iastore, 1) := dk_79 (dk_at dksX2_removes_4 16 rfl rfl)
theorem dX2_removes_111 : decode cX2_removes 111 = .ok (.aload_n 0, 1) := dk_42 (dk_at dksX2_removes_4 17 rfl rfl)
theorem dX2_removes_112 : decode cX2_removes 112 = .ok (.getfield 84, 3) := dk_180 0 84 (dk_at dksX2_removes_4 18 rfl rfl)
theorem dX2_removes_115 : decode cX2_removes 115 = .ok (.iload_n 3, 1) := dk_29 (dk_at dksX2_removes_4 21 rfl rfl)
theorem dX2_removes_116 : decode cX2_removes 116 = .ok (.aload_n 0, 1) := dk_42 (dk_at dksX2_removes_4 22 rfl rfl)
theorem dX2_removes_117 : decode cX2_removes 117 = .ok (.getfield 84, 3) := dk_180 0 84 (dk_at dksX2_removes_5 0 rfl rfl)
theorem dX2_removes_120 : decode cX2_removes 120 = .ok (.iload_n 3, 1) := dk_29 (dk_at dksX2_removes_5 3 rfl rfl)
theorem dX2_removes_121 : decode cX2_removes 121 = .ok (.iconst 1, 1) := dk_4 (dk_at dksX2_removes_5 4 rfl rfl)
theorem dX2_removes_122 : decode cX2_removes 122 = .ok (.iadd, 1) := dk_96 (dk_at dksX2_removes_5 5 rfl rfl)
theorem dX2_removes_123 : decode cX2_removes 123 = .ok (.iaload, 1) := dk_46 (dk_at dksX2_removes_5 6 rfl rfl)
theorem dX2_removes_124 : decode cX2_removes 124 = .ok (.iastore, 1) := dk_79 (dk_at dksX2_removes_5 7 rfl rfl)
theorem dX2_removes_125 : decode cX2_removes 125 = .ok (.aload_n 0, 1) := dk_42 (dk_at dksX2_removes_5 8 rfl rfl)
theorem dX2_removes_126 : decode cX2_removes 126 = .ok (.getfield 87, 3) := dk_180 0 87 (dk_at dksX2_removes_5 9 rfl rfl)
theorem dX2_removes_129 : decode cX2_removes 129 = .ok (.iload_n 3, 1) := dk_29 (dk_at dksX2_removes_5 12 rfl rfl)
theorem dX2_removes_130 : decode cX2_removes 130 = .ok (.aload_n 0, 1) := dk_42 (dk_at dksX2_removes_5 13 rfl rfl)
theorem dX2_removes_131 : decode cX2_removes 131 = .ok (.getfield 87, 3) := dk_180 0 87 (dk_at dksX2_removes_5 14 rfl rfl)
theorem dX2_removes_134 : decode cX2_removes 134 = .ok (.iload_n 3, 1) := dk_29 (dk_at dksX2_removes_5 17 rfl rfl)
theorem dX2_removes_135 : decode cX2_removes 135 = .ok (.iconst 1, 1) := dk_4 (dk_at dksX2_removes_5 18 rfl rfl)
theorem dX2_removes_136 : decode cX2_removes 136 = .ok (.iadd, 1) := dk_96 (dk_at dksX2_removes_5 19 rfl rfl)
theorem dX2_removes_137 : decode cX2_removes 137 = .ok (.iaload, 1) := dk_46 (dk_at dksX2_removes_5 20 rfl rfl)
theorem dX2_removes_138 : decode cX2_removes 138 = .ok (.iastore, 1) := dk_79 (dk_at dksX2_removes_5 21 rfl rfl)
theorem dX2_removes_139 : decode cX2_removes 139 = .ok (.aload_n 0, 1) := dk_42 (dk_at dksX2_removes_5 22 rfl rfl)
theorem dX2_removes_140 : decode cX2_removes 140 = .ok (.getfield 90, 3) := dk_180 0 90 (dk_at dksX2_removes_6 0 rfl rfl)
theorem dX2_removes_143 : decode cX2_removes 143 = .ok (.iload_n 3, 1) := dk_29 (dk_at dksX2_removes_6 3 rfl rfl)
theorem dX2_removes_144 : decode cX2_removes 144 = .ok (.aload_n 0, 1) := dk_42 (dk_at dksX2_removes_6 4 rfl rfl)
theorem dX2_removes_145 : decode cX2_removes 145 = .ok (.getfield 90, 3) := dk_180 0 90 (dk_at dksX2_removes_6 5 rfl rfl)
theorem dX2_removes_148 : decode cX2_removes 148 = .ok (.iload_n 3, 1) := dk_29 (dk_at dksX2_removes_6 8 rfl rfl)
theorem dX2_removes_149 : decode cX2_removes 149 = .ok (.iconst 1, 1) := dk_4 (dk_at dksX2_removes_6 9 rfl rfl)
theorem dX2_removes_150 : decode cX2_removes 150 = .ok (.iadd, 1) := dk_96 (dk_at dksX2_removes_6 10 rfl rfl)
theorem dX2_removes_151 : decode cX2_removes 151 = .ok (.iaload, 1) := dk_46 (dk_at dksX2_removes_6 11 rfl rfl)
theorem dX2_removes_152 : decode cX2_removes 152 = .ok (.iastore, 1) := dk_79 (dk_at dksX2_removes_6 12 rfl rfl)
theorem dX2_removes_153 : decode cX2_removes 153 = .ok (.aload_n 0, 1) := dk_42 (dk_at dksX2_removes_6 13 rfl rfl)
theorem dX2_removes_154 : decode cX2_removes 154 = .ok (.getfield 93, 3) := dk_180 0 93 (dk_at dksX2_removes_6 14 rfl rfl)
theorem dX2_removes_157 : decode cX2_removes 157 = .ok (.iload_n 3, 1) := dk_29 (dk_at dksX2_removes_6 17 rfl rfl)
theorem dX2_removes_158 : decode cX2_removes 158 = .ok (.aload_n 0, 1) := dk_42 (dk_at dksX2_removes_6 18 rfl rfl)
theorem dX2_removes_159 : decode cX2_removes 159 = .ok (.getfield 93, 3) := dk_180 0 93 (dk_at dksX2_removes_6 19 rfl rfl)
theorem dX2_removes_162 : decode cX2_removes 162 = .ok (.iload_n 3, 1) := dk_29 (dk_at dksX2_removes_6 22 rfl rfl)
theorem dX2_removes_163 : decode cX2_removes 163 = .ok (.iconst 1, 1) := dk_4 (dk_at dksX2_removes_6 23 rfl rfl)
theorem dX2_removes_164 : decode cX2_removes 164 = .ok (.iadd, 1) := dk_96 (dk_at dksX2_removes_7 0 rfl rfl)
theorem dX2_removes_165 : decode cX2_removes 165 = .ok (.iaload, 1) := dk_46 (dk_at dksX2_removes_7 1 rfl rfl)
theorem dX2_removes_166 : decode cX2_removes 166 = .ok (.iastore, 1) := dk_79 (dk_at dksX2_removes_7 2 rfl rfl)
theorem dX2_removes_167 : decode cX2_removes 167 = .ok (.iinc 3 1, 3) := dk_132 3 1 (dk_at dksX2_removes_7 3 rfl rfl)
theorem dX2_removes_170 : decode cX2_removes 170 = .ok (.goto (-158), 3) := dk_167 255 98 (dk_at dksX2_removes_7 6 rfl rfl)
theorem dX2_removes_173 : decode cX2_removes 173 = .ok (.return_, 1) := dk_177 (dk_at dksX2_removes_7 9 rfl rfl)
abbrev cX2_waits : ByteArray := prog_25_method_83_code
def yX2_waits : MethodName := ⟨RX2, "waits", "(I)Z"⟩
def dkwX2_waits_1 : List UInt8 := [132, 2, 1, 167, 255, 244, 4, 172]
abbrev dktX2_waits_1 : List UInt8 := dkwX2_waits_1 ++ []
def dkwX2_waits_0 : List UInt8 := [42, 180, 1, 128, 27, 96, 16, 99, 164, 0, 5, 3, 172, 3, 61, 28, 27, 162, 0, 13, 42, 182, 2, 3]
abbrev dktX2_waits_0 : List UInt8 := dkwX2_waits_0 ++ dktX2_waits_1
theorem dksX2_waits_0 : cX2_waits.data.toList.drop 0 = dktX2_waits_0 := by decide +kernel
theorem dksX2_waits_1 : cX2_waits.data.toList.drop 24 = dktX2_waits_1 := dk_seg dksX2_waits_0 24 rfl rfl
theorem dX2_waits_0 : decode cX2_waits 0 = .ok (.aload_n 0, 1) := dk_42 (dk_at dksX2_waits_0 0 rfl rfl)
theorem dX2_waits_1 : decode cX2_waits 1 = .ok (.getfield 384, 3) := dk_180 1 128 (dk_at dksX2_waits_0 1 rfl rfl)
theorem dX2_waits_4 : decode cX2_waits 4 = .ok (.iload_n 1, 1) := dk_27 (dk_at dksX2_waits_0 4 rfl rfl)
theorem dX2_waits_5 : decode cX2_waits 5 = .ok (.iadd, 1) := dk_96 (dk_at dksX2_waits_0 5 rfl rfl)
theorem dX2_waits_6 : decode cX2_waits 6 = .ok (.bipush 99, 2) := dk_16 99 (dk_at dksX2_waits_0 6 rfl rfl)
theorem dX2_waits_8 : decode cX2_waits 8 = .ok (.if_icmp .le 5, 3) := dk_164 0 5 (dk_at dksX2_waits_0 8 rfl rfl)
theorem dX2_waits_11 : decode cX2_waits 11 = .ok (.iconst 0, 1) := dk_3 (dk_at dksX2_waits_0 11 rfl rfl)
theorem dX2_waits_12 : decode cX2_waits 12 = .ok (.ireturn, 1) := dk_172 (dk_at dksX2_waits_0 12 rfl rfl)
theorem dX2_waits_13 : decode cX2_waits 13 = .ok (.iconst 0, 1) := dk_3 (dk_at dksX2_waits_0 13 rfl rfl)
theorem dX2_waits_14 : decode cX2_waits 14 = .ok (.istore_n 2, 1) := dk_61 (dk_at dksX2_waits_0 14 rfl rfl)
theorem dX2_waits_15 : decode cX2_waits 15 = .ok (.iload_n 2, 1) := dk_28 (dk_at dksX2_waits_0 15 rfl rfl)
theorem dX2_waits_16 : decode cX2_waits 16 = .ok (.iload_n 1, 1) := dk_27 (dk_at dksX2_waits_0 16 rfl rfl)
theorem dX2_waits_17 : decode cX2_waits 17 = .ok (.if_icmp .ge 13, 3) := dk_162 0 13 (dk_at dksX2_waits_0 17 rfl rfl)
theorem dX2_waits_20 : decode cX2_waits 20 = .ok (.aload_n 0, 1) := dk_42 (dk_at dksX2_waits_0 20 rfl rfl)
theorem dX2_waits_21 : decode cX2_waits 21 = .ok (.invokevirtual 515, 3) := dk_182 2 3 (dk_at dksX2_waits_0 21 rfl rfl)
theorem dX2_waits_24 : decode cX2_waits 24 = .ok (.iinc 2 1, 3) := dk_132 2 1 (dk_at dksX2_waits_1 0 rfl rfl)
theorem dX2_waits_27 : decode cX2_waits 27 = .ok (.goto (-12), 3) := dk_167 255 244 (dk_at dksX2_waits_1 3 rfl rfl)
theorem dX2_waits_30 : decode cX2_waits 30 = .ok (.iconst 1, 1) := dk_4 (dk_at dksX2_waits_1 6 rfl rfl)
theorem dX2_waits_31 : decode cX2_waits 31 = .ok (.ireturn, 1) := dk_172 (dk_at dksX2_waits_1 7 rfl rfl)
abbrev cX2_goesBy : ByteArray := prog_25_method_82_code
def yX2_goesBy : MethodName := ⟨RX2, "goesBy", "()V"⟩
def dkwX2_goesBy_4 : List UInt8 := [181, 1, 131, 177]
abbrev dktX2_goesBy_4 : List UInt8 := dkwX2_goesBy_4 ++ []
def dkwX2_goesBy_3 : List UInt8 := [180, 1, 128, 164, 0, 12, 42, 29, 28, 182, 2, 0, 132, 2, 1, 132, 3, 1, 167, 255, 223, 42, 28]
abbrev dktX2_goesBy_3 : List UInt8 := dkwX2_goesBy_3 ++ dktX2_goesBy_4
def dkwX2_goesBy_2 : List UInt8 := [167, 255, 230, 3, 61, 3, 62, 29, 42, 180, 1, 131, 162, 0, 31, 42, 180, 0, 114, 29, 46, 42]
abbrev dktX2_goesBy_2 : List UInt8 := dkwX2_goesBy_2 ++ dktX2_goesBy_3
def dkwX2_goesBy_1 : List UInt8 := [162, 0, 27, 42, 180, 0, 114, 28, 46, 42, 180, 1, 128, 160, 0, 8, 42, 28, 182, 1, 253, 132, 2, 1]
abbrev dktX2_goesBy_1 : List UInt8 := dkwX2_goesBy_1 ++ dktX2_goesBy_2
def dkwX2_goesBy_0 : List UInt8 := [42, 89, 180, 1, 128, 4, 96, 181, 1, 128, 42, 182, 1, 250, 42, 180, 1, 131, 60, 3, 61, 28, 27]
abbrev dktX2_goesBy_0 : List UInt8 := dkwX2_goesBy_0 ++ dktX2_goesBy_1
theorem dksX2_goesBy_0 : cX2_goesBy.data.toList.drop 0 = dktX2_goesBy_0 := by decide +kernel
theorem dksX2_goesBy_1 : cX2_goesBy.data.toList.drop 23 = dktX2_goesBy_1 := dk_seg dksX2_goesBy_0 23 rfl rfl
theorem dksX2_goesBy_2 : cX2_goesBy.data.toList.drop 47 = dktX2_goesBy_2 := dk_seg dksX2_goesBy_1 24 rfl rfl
theorem dksX2_goesBy_3 : cX2_goesBy.data.toList.drop 69 = dktX2_goesBy_3 := dk_seg dksX2_goesBy_2 22 rfl rfl
theorem dksX2_goesBy_4 : cX2_goesBy.data.toList.drop 92 = dktX2_goesBy_4 := dk_seg dksX2_goesBy_3 23 rfl rfl
theorem dX2_goesBy_0 : decode cX2_goesBy 0 = .ok (.aload_n 0, 1) := dk_42 (dk_at dksX2_goesBy_0 0 rfl rfl)
theorem dX2_goesBy_1 : decode cX2_goesBy 1 = .ok (.dup, 1) := dk_89 (dk_at dksX2_goesBy_0 1 rfl rfl)
theorem dX2_goesBy_2 : decode cX2_goesBy 2 = .ok (.getfield 384, 3) := dk_180 1 128 (dk_at dksX2_goesBy_0 2 rfl rfl)
theorem dX2_goesBy_5 : decode cX2_goesBy 5 = .ok (.iconst 1, 1) := dk_4 (dk_at dksX2_goesBy_0 5 rfl rfl)
theorem dX2_goesBy_6 : decode cX2_goesBy 6 = .ok (.iadd, 1) := dk_96 (dk_at dksX2_goesBy_0 6 rfl rfl)
theorem dX2_goesBy_7 : decode cX2_goesBy 7 = .ok (.putfield 384, 3) := dk_181 1 128 (dk_at dksX2_goesBy_0 7 rfl rfl)
theorem dX2_goesBy_10 : decode cX2_goesBy 10 = .ok (.aload_n 0, 1) := dk_42 (dk_at dksX2_goesBy_0 10 rfl rfl)
theorem dX2_goesBy_11 : decode cX2_goesBy 11 = .ok (.invokevirtual 506, 3) := dk_182 1 250 (dk_at dksX2_goesBy_0 11 rfl rfl)
theorem dX2_goesBy_14 : decode cX2_goesBy 14 = .ok (.aload_n 0, 1) := dk_42 (dk_at dksX2_goesBy_0 14 rfl rfl)
theorem dX2_goesBy_15 : decode cX2_goesBy 15 = .ok (.getfield 387, 3) := dk_180 1 131 (dk_at dksX2_goesBy_0 15 rfl rfl)
theorem dX2_goesBy_18 : decode cX2_goesBy 18 = .ok (.istore_n 1, 1) := dk_60 (dk_at dksX2_goesBy_0 18 rfl rfl)
theorem dX2_goesBy_19 : decode cX2_goesBy 19 = .ok (.iconst 0, 1) := dk_3 (dk_at dksX2_goesBy_0 19 rfl rfl)
theorem dX2_goesBy_20 : decode cX2_goesBy 20 = .ok (.istore_n 2, 1) := dk_61 (dk_at dksX2_goesBy_0 20 rfl rfl)
theorem dX2_goesBy_21 : decode cX2_goesBy 21 = .ok (.iload_n 2, 1) := dk_28 (dk_at dksX2_goesBy_0 21 rfl rfl)
theorem dX2_goesBy_22 : decode cX2_goesBy 22 = .ok (.iload_n 1, 1) := dk_27 (dk_at dksX2_goesBy_0 22 rfl rfl)
theorem dX2_goesBy_23 : decode cX2_goesBy 23 = .ok (.if_icmp .ge 27, 3) := dk_162 0 27 (dk_at dksX2_goesBy_1 0 rfl rfl)
theorem dX2_goesBy_26 : decode cX2_goesBy 26 = .ok (.aload_n 0, 1) := dk_42 (dk_at dksX2_goesBy_1 3 rfl rfl)
theorem dX2_goesBy_27 : decode cX2_goesBy 27 = .ok (.getfield 114, 3) := dk_180 0 114 (dk_at dksX2_goesBy_1 4 rfl rfl)
theorem dX2_goesBy_30 : decode cX2_goesBy 30 = .ok (.iload_n 2, 1) := dk_28 (dk_at dksX2_goesBy_1 7 rfl rfl)
theorem dX2_goesBy_31 : decode cX2_goesBy 31 = .ok (.iaload, 1) := dk_46 (dk_at dksX2_goesBy_1 8 rfl rfl)
theorem dX2_goesBy_32 : decode cX2_goesBy 32 = .ok (.aload_n 0, 1) := dk_42 (dk_at dksX2_goesBy_1 9 rfl rfl)
theorem dX2_goesBy_33 : decode cX2_goesBy 33 = .ok (.getfield 384, 3) := dk_180 1 128 (dk_at dksX2_goesBy_1 10 rfl rfl)
theorem dX2_goesBy_36 : decode cX2_goesBy 36 = .ok (.if_icmp .ne 8, 3) := dk_160 0 8 (dk_at dksX2_goesBy_1 13 rfl rfl)
theorem dX2_goesBy_39 : decode cX2_goesBy 39 = .ok (.aload_n 0, 1) := dk_42 (dk_at dksX2_goesBy_1 16 rfl rfl)
theorem dX2_goesBy_40 : decode cX2_goesBy 40 = .ok (.iload_n 2, 1) := dk_28 (dk_at dksX2_goesBy_1 17 rfl rfl)
theorem dX2_goesBy_41 : decode cX2_goesBy 41 = .ok (.invokevirtual 509, 3) := dk_182 1 253 (dk_at dksX2_goesBy_1 18 rfl rfl)
theorem dX2_goesBy_44 : decode cX2_goesBy 44 = .ok (.iinc 2 1, 3) := dk_132 2 1 (dk_at dksX2_goesBy_1 21 rfl rfl)
theorem dX2_goesBy_47 : decode cX2_goesBy 47 = .ok (.goto (-26), 3) := dk_167 255 230 (dk_at dksX2_goesBy_2 0 rfl rfl)
theorem dX2_goesBy_50 : decode cX2_goesBy 50 = .ok (.iconst 0, 1) := dk_3 (dk_at dksX2_goesBy_2 3 rfl rfl)
theorem dX2_goesBy_51 : decode cX2_goesBy 51 = .ok (.istore_n 2, 1) := dk_61 (dk_at dksX2_goesBy_2 4 rfl rfl)
theorem dX2_goesBy_52 : decode cX2_goesBy 52 = .ok (.iconst 0, 1) := dk_3 (dk_at dksX2_goesBy_2 5 rfl rfl)
theorem dX2_goesBy_53 : decode cX2_goesBy 53 = .ok (.istore_n 3, 1) := dk_62 (dk_at dksX2_goesBy_2 6 rfl rfl)
theorem dX2_goesBy_54 : decode cX2_goesBy 54 = .ok (.iload_n 3, 1) := dk_29 (dk_at dksX2_goesBy_2 7 rfl rfl)
theorem dX2_goesBy_55 : decode cX2_goesBy 55 = .ok (.aload_n 0, 1) := dk_42 (dk_at dksX2_goesBy_2 8 rfl rfl)
theorem dX2_goesBy_56 : decode cX2_goesBy 56 = .ok (.getfield 387, 3) := dk_180 1 131 (dk_at dksX2_goesBy_2 9 rfl rfl)
theorem dX2_goesBy_59 : decode cX2_goesBy 59 = .ok (.if_icmp .ge 31, 3) := dk_162 0 31 (dk_at dksX2_goesBy_2 12 rfl rfl)
theorem dX2_goesBy_62 : decode cX2_goesBy 62 = .ok (.aload_n 0, 1) := dk_42 (dk_at dksX2_goesBy_2 15 rfl rfl)
theorem dX2_goesBy_63 : decode cX2_goesBy 63 = .ok (.getfield 114, 3) := dk_180 0 114 (dk_at dksX2_goesBy_2 16 rfl rfl)
theorem dX2_goesBy_66 : decode cX2_goesBy 66 = .ok (.iload_n 3, 1) := dk_29 (dk_at dksX2_goesBy_2 19 rfl rfl)
theorem dX2_goesBy_67 : decode cX2_goesBy 67 = .ok (.iaload, 1) := dk_46 (dk_at dksX2_goesBy_2 20 rfl rfl)
theorem dX2_goesBy_68 : decode cX2_goesBy 68 = .ok (.aload_n 0, 1) := dk_42 (dk_at dksX2_goesBy_2 21 rfl rfl)
theorem dX2_goesBy_69 : decode cX2_goesBy 69 = .ok (.getfield 384, 3) := dk_180 1 128 (dk_at dksX2_goesBy_3 0 rfl rfl)
theorem dX2_goesBy_72 : decode cX2_goesBy 72 = .ok (.if_icmp .le 12, 3) := dk_164 0 12 (dk_at dksX2_goesBy_3 3 rfl rfl)
theorem dX2_goesBy_75 : decode cX2_goesBy 75 = .ok (.aload_n 0, 1) := dk_42 (dk_at dksX2_goesBy_3 6 rfl rfl)
theorem dX2_goesBy_76 : decode cX2_goesBy 76 = .ok (.iload_n 3, 1) := dk_29 (dk_at dksX2_goesBy_3 7 rfl rfl)
theorem dX2_goesBy_77 : decode cX2_goesBy 77 = .ok (.iload_n 2, 1) := dk_28 (dk_at dksX2_goesBy_3 8 rfl rfl)
theorem dX2_goesBy_78 : decode cX2_goesBy 78 = .ok (.invokevirtual 512, 3) := dk_182 2 0 (dk_at dksX2_goesBy_3 9 rfl rfl)
theorem dX2_goesBy_81 : decode cX2_goesBy 81 = .ok (.iinc 2 1, 3) := dk_132 2 1 (dk_at dksX2_goesBy_3 12 rfl rfl)
theorem dX2_goesBy_84 : decode cX2_goesBy 84 = .ok (.iinc 3 1, 3) := dk_132 3 1 (dk_at dksX2_goesBy_3 15 rfl rfl)
theorem dX2_goesBy_87 : decode cX2_goesBy 87 = .ok (.goto (-33), 3) := dk_167 255 223 (dk_at dksX2_goesBy_3 18 rfl rfl)
theorem dX2_goesBy_90 : decode cX2_goesBy 90 = .ok (.aload_n 0, 1) := dk_42 (dk_at dksX2_goesBy_3 21 rfl rfl)
theorem dX2_goesBy_91 : decode cX2_goesBy 91 = .ok (.iload_n 2, 1) := dk_28 (dk_at dksX2_goesBy_3 22 rfl rfl)
theorem dX2_goesBy_92 : decode cX2_goesBy 92 = .ok (.putfield 387, 3) := dk_181 1 131 (dk_at dksX2_goesBy_4 0 rfl rfl)
theorem dX2_goesBy_95 : decode cX2_goesBy 95 = .ok (.return_, 1) := dk_177 (dk_at dksX2_goesBy_4 3 rfl rfl)
abbrev cX2_endsAll : ByteArray := prog_25_method_79_code
def yX2_endsAll : MethodName := ⟨RX2, "endsAll", "()V"⟩
def dkwX2_endsAll_6 : List UInt8 := [132, 1, 1, 167, 255, 114, 177]
abbrev dktX2_endsAll_6 : List UInt8 := dkwX2_endsAll_6 ++ []
def dkwX2_endsAll_5 : List UInt8 := [79, 132, 4, 1, 167, 255, 213, 42, 27, 29, 182, 1, 203, 167, 0, 6, 132, 2, 1, 167, 255, 130]
abbrev dktX2_endsAll_5 : List UInt8 := dkwX2_endsAll_5 ++ dktX2_endsAll_6
def dkwX2_endsAll_4 : List UInt8 := [184, 1, 219, 153, 0, 22, 42, 180, 0, 129, 21, 4, 6, 79, 42, 180, 0, 132, 21, 4, 42, 180, 1, 128]
abbrev dktX2_endsAll_4 : List UInt8 := dkwX2_endsAll_4 ++ dktX2_endsAll_5
def dkwX2_endsAll_3 : List UInt8 := [42, 180, 1, 86, 79, 3, 54, 4, 21, 4, 16, 64, 162, 0, 42, 42, 180, 0, 75, 29, 47, 21, 4]
abbrev dktX2_endsAll_3 : List UInt8 := dkwX2_endsAll_3 ++ dktX2_endsAll_4
def dkwX2_endsAll_2 : List UInt8 := [47, 42, 180, 0, 78, 29, 47, 129, 80, 42, 180, 0, 48, 16, 6, 27, 104, 42, 180, 0, 84, 29, 46, 96]
abbrev dktX2_endsAll_2 : List UInt8 := dkwX2_endsAll_2 ++ dktX2_endsAll_3
def dkwX2_endsAll_1 : List UInt8 := [27, 104, 28, 96, 62, 42, 180, 0, 93, 29, 46, 42, 180, 1, 128, 160, 0, 96, 42, 180, 0, 44, 27, 92]
abbrev dktX2_endsAll_1 : List UInt8 := dkwX2_endsAll_1 ++ dktX2_endsAll_2
def dkwX2_endsAll_0 : List UInt8 := [3, 60, 27, 42, 180, 1, 83, 162, 0, 140, 3, 61, 28, 42, 180, 0, 63, 27, 46, 162, 0, 122, 16, 64]
abbrev dktX2_endsAll_0 : List UInt8 := dkwX2_endsAll_0 ++ dktX2_endsAll_1
theorem dksX2_endsAll_0 : cX2_endsAll.data.toList.drop 0 = dktX2_endsAll_0 := by decide +kernel
theorem dksX2_endsAll_1 : cX2_endsAll.data.toList.drop 24 = dktX2_endsAll_1 := dk_seg dksX2_endsAll_0 24 rfl rfl
theorem dksX2_endsAll_2 : cX2_endsAll.data.toList.drop 48 = dktX2_endsAll_2 := dk_seg dksX2_endsAll_1 24 rfl rfl
theorem dksX2_endsAll_3 : cX2_endsAll.data.toList.drop 72 = dktX2_endsAll_3 := dk_seg dksX2_endsAll_2 24 rfl rfl
theorem dksX2_endsAll_4 : cX2_endsAll.data.toList.drop 95 = dktX2_endsAll_4 := dk_seg dksX2_endsAll_3 23 rfl rfl
theorem dksX2_endsAll_5 : cX2_endsAll.data.toList.drop 119 = dktX2_endsAll_5 := dk_seg dksX2_endsAll_4 24 rfl rfl
theorem dksX2_endsAll_6 : cX2_endsAll.data.toList.drop 141 = dktX2_endsAll_6 := dk_seg dksX2_endsAll_5 22 rfl rfl
theorem dX2_endsAll_0 : decode cX2_endsAll 0 = .ok (.iconst 0, 1) := dk_3 (dk_at dksX2_endsAll_0 0 rfl rfl)
theorem dX2_endsAll_1 : decode cX2_endsAll 1 = .ok (.istore_n 1, 1) := dk_60 (dk_at dksX2_endsAll_0 1 rfl rfl)
theorem dX2_endsAll_2 : decode cX2_endsAll 2 = .ok (.iload_n 1, 1) := dk_27 (dk_at dksX2_endsAll_0 2 rfl rfl)
theorem dX2_endsAll_3 : decode cX2_endsAll 3 = .ok (.aload_n 0, 1) := dk_42 (dk_at dksX2_endsAll_0 3 rfl rfl)
theorem dX2_endsAll_4 : decode cX2_endsAll 4 = .ok (.getfield 339, 3) := dk_180 1 83 (dk_at dksX2_endsAll_0 4 rfl rfl)
theorem dX2_endsAll_7 : decode cX2_endsAll 7 = .ok (.if_icmp .ge 140, 3) := dk_162 0 140 (dk_at dksX2_endsAll_0 7 rfl rfl)
theorem dX2_endsAll_10 : decode cX2_endsAll 10 = .ok (.iconst 0, 1) := dk_3 (dk_at dksX2_endsAll_0 10 rfl rfl)
theorem dX2_endsAll_11 : decode cX2_endsAll 11 = .ok (.istore_n 2, 1) := dk_61 (dk_at dksX2_endsAll_0 11 rfl rfl)
theorem dX2_endsAll_12 : decode cX2_endsAll 12 = .ok (.iload_n 2, 1) := dk_28 (dk_at dksX2_endsAll_0 12 rfl rfl)
theorem dX2_endsAll_13 : decode cX2_endsAll 13 = .ok (.aload_n 0, 1) := dk_42 (dk_at dksX2_endsAll_0 13 rfl rfl)
theorem dX2_endsAll_14 : decode cX2_endsAll 14 = .ok (.getfield 63, 3) := dk_180 0 63 (dk_at dksX2_endsAll_0 14 rfl rfl)
theorem dX2_endsAll_17 : decode cX2_endsAll 17 = .ok (.iload_n 1, 1) := dk_27 (dk_at dksX2_endsAll_0 17 rfl rfl)
theorem dX2_endsAll_18 : decode cX2_endsAll 18 = .ok (.iaload, 1) := dk_46 (dk_at dksX2_endsAll_0 18 rfl rfl)
theorem dX2_endsAll_19 : decode cX2_endsAll 19 = .ok (.if_icmp .ge 122, 3) := dk_162 0 122 (dk_at dksX2_endsAll_0 19 rfl rfl)
theorem dX2_endsAll_22 : decode cX2_endsAll 22 = .ok (.bipush 64, 2) := dk_16 64 (dk_at dksX2_endsAll_0 22 rfl rfl)
theorem dX2_endsAll_24 : decode cX2_endsAll 24 = .ok (.iload_n 1, 1) := dk_27 (dk_at dksX2_endsAll_1 0 rfl rfl)
theorem dX2_endsAll_25 : decode cX2_endsAll 25 = .ok (.imul, 1) := dk_104 (dk_at dksX2_endsAll_1 1 rfl rfl)
theorem dX2_endsAll_26 : decode cX2_endsAll 26 = .ok (.iload_n 2, 1) := dk_28 (dk_at dksX2_endsAll_1 2 rfl rfl)
theorem dX2_endsAll_27 : decode cX2_endsAll 27 = .ok (.iadd, 1) := dk_96 (dk_at dksX2_endsAll_1 3 rfl rfl)
theorem dX2_endsAll_28 : decode cX2_endsAll 28 = .ok (.istore_n 3, 1) := dk_62 (dk_at dksX2_endsAll_1 4 rfl rfl)
theorem dX2_endsAll_29 : decode cX2_endsAll 29 = .ok (.aload_n 0, 1) := dk_42 (dk_at dksX2_endsAll_1 5 rfl rfl)
theorem dX2_endsAll_30 : decode cX2_endsAll 30 = .ok (.getfield 93, 3) := dk_180 0 93 (dk_at dksX2_endsAll_1 6 rfl rfl)
theorem dX2_endsAll_33 : decode cX2_endsAll 33 = .ok (.iload_n 3, 1) := dk_29 (dk_at dksX2_endsAll_1 9 rfl rfl)
theorem dX2_endsAll_34 : decode cX2_endsAll 34 = .ok (.iaload, 1) := dk_46 (dk_at dksX2_endsAll_1 10 rfl rfl)
theorem dX2_endsAll_35 : decode cX2_endsAll 35 = .ok (.aload_n 0, 1) := dk_42 (dk_at dksX2_endsAll_1 11 rfl rfl)
theorem dX2_endsAll_36 : decode cX2_endsAll 36 = .ok (.getfield 384, 3) := dk_180 1 128 (dk_at dksX2_endsAll_1 12 rfl rfl)
theorem dX2_endsAll_39 : decode cX2_endsAll 39 = .ok (.if_icmp .ne 96, 3) := dk_160 0 96 (dk_at dksX2_endsAll_1 15 rfl rfl)
theorem dX2_endsAll_42 : decode cX2_endsAll 42 = .ok (.aload_n 0, 1) := dk_42 (dk_at dksX2_endsAll_1 18 rfl rfl)
theorem dX2_endsAll_43 : decode cX2_endsAll 43 = .ok (.getfield 44, 3) := dk_180 0 44 (dk_at dksX2_endsAll_1 19 rfl rfl)
theorem dX2_endsAll_46 : decode cX2_endsAll 46 = .ok (.iload_n 1, 1) := dk_27 (dk_at dksX2_endsAll_1 22 rfl rfl)
theorem dX2_endsAll_47 : decode cX2_endsAll 47 = .ok (.dup2, 1) := dk_92 (dk_at dksX2_endsAll_1 23 rfl rfl)
theorem dX2_endsAll_48 : decode cX2_endsAll 48 = .ok (.laload, 1) := dk_47 (dk_at dksX2_endsAll_2 0 rfl rfl)
theorem dX2_endsAll_49 : decode cX2_endsAll 49 = .ok (.aload_n 0, 1) := dk_42 (dk_at dksX2_endsAll_2 1 rfl rfl)
theorem dX2_endsAll_50 : decode cX2_endsAll 50 = .ok (.getfield 78, 3) := dk_180 0 78 (dk_at dksX2_endsAll_2 2 rfl rfl)
theorem dX2_endsAll_53 : decode cX2_endsAll 53 = .ok (.iload_n 3, 1) := dk_29 (dk_at dksX2_endsAll_2 5 rfl rfl)
theorem dX2_endsAll_54 : decode cX2_endsAll 54 = .ok (.laload, 1) := dk_47 (dk_at dksX2_endsAll_2 6 rfl rfl)
theorem dX2_endsAll_55 : decode cX2_endsAll 55 = .ok (.lor, 1) := dk_129 (dk_at dksX2_endsAll_2 7 rfl rfl)
theorem dX2_endsAll_56 : decode cX2_endsAll 56 = .ok (.lastore, 1) := dk_80 (dk_at dksX2_endsAll_2 8 rfl rfl)
theorem dX2_endsAll_57 : decode cX2_endsAll 57 = .ok (.aload_n 0, 1) := dk_42 (dk_at dksX2_endsAll_2 9 rfl rfl)
theorem dX2_endsAll_58 : decode cX2_endsAll 58 = .ok (.getfield 48, 3) := dk_180 0 48 (dk_at dksX2_endsAll_2 10 rfl rfl)
theorem dX2_endsAll_61 : decode cX2_endsAll 61 = .ok (.bipush 6, 2) := dk_16 6 (dk_at dksX2_endsAll_2 13 rfl rfl)
theorem dX2_endsAll_63 : decode cX2_endsAll 63 = .ok (.iload_n 1, 1) := dk_27 (dk_at dksX2_endsAll_2 15 rfl rfl)
theorem dX2_endsAll_64 : decode cX2_endsAll 64 = .ok (.imul, 1) := dk_104 (dk_at dksX2_endsAll_2 16 rfl rfl)
theorem dX2_endsAll_65 : decode cX2_endsAll 65 = .ok (.aload_n 0, 1) := dk_42 (dk_at dksX2_endsAll_2 17 rfl rfl)
theorem dX2_endsAll_66 : decode cX2_endsAll 66 = .ok (.getfield 84, 3) := dk_180 0 84 (dk_at dksX2_endsAll_2 18 rfl rfl)
theorem dX2_endsAll_69 : decode cX2_endsAll 69 = .ok (.iload_n 3, 1) := dk_29 (dk_at dksX2_endsAll_2 21 rfl rfl)
theorem dX2_endsAll_70 : decode cX2_endsAll 70 = .ok (.iaload, 1) := dk_46 (dk_at dksX2_endsAll_2 22 rfl rfl)
theorem dX2_endsAll_71 : decode cX2_endsAll 71 = .ok (.iadd, 1) := dk_96 (dk_at dksX2_endsAll_2 23 rfl rfl)
theorem dX2_endsAll_72 : decode cX2_endsAll 72 = .ok (.aload_n 0, 1) := dk_42 (dk_at dksX2_endsAll_3 0 rfl rfl)
theorem dX2_endsAll_73 : decode cX2_endsAll 73 = .ok (.getfield 342, 3) := dk_180 1 86 (dk_at dksX2_endsAll_3 1 rfl rfl)
theorem dX2_endsAll_76 : decode cX2_endsAll 76 = .ok (.iastore, 1) := dk_79 (dk_at dksX2_endsAll_3 4 rfl rfl)
theorem dX2_endsAll_77 : decode cX2_endsAll 77 = .ok (.iconst 0, 1) := dk_3 (dk_at dksX2_endsAll_3 5 rfl rfl)
theorem dX2_endsAll_78 : decode cX2_endsAll 78 = .ok (.istore 4, 2) := dk_54 4 (dk_at dksX2_endsAll_3 6 rfl rfl)
theorem dX2_endsAll_80 : decode cX2_endsAll 80 = .ok (.iload 4, 2) := dk_21 4 (dk_at dksX2_endsAll_3 8 rfl rfl)
theorem dX2_endsAll_82 : decode cX2_endsAll 82 = .ok (.bipush 64, 2) := dk_16 64 (dk_at dksX2_endsAll_3 10 rfl rfl)
theorem dX2_endsAll_84 : decode cX2_endsAll 84 = .ok (.if_icmp .ge 42, 3) := dk_162 0 42 (dk_at dksX2_endsAll_3 12 rfl rfl)
theorem dX2_endsAll_87 : decode cX2_endsAll 87 = .ok (.aload_n 0, 1) := dk_42 (dk_at dksX2_endsAll_3 15 rfl rfl)
theorem dX2_endsAll_88 : decode cX2_endsAll 88 = .ok (.getfield 75, 3) := dk_180 0 75 (dk_at dksX2_endsAll_3 16 rfl rfl)
theorem dX2_endsAll_91 : decode cX2_endsAll 91 = .ok (.iload_n 3, 1) := dk_29 (dk_at dksX2_endsAll_3 19 rfl rfl)
theorem dX2_endsAll_92 : decode cX2_endsAll 92 = .ok (.laload, 1) := dk_47 (dk_at dksX2_endsAll_3 20 rfl rfl)
theorem dX2_endsAll_93 : decode cX2_endsAll 93 = .ok (.iload 4, 2) := dk_21 4 (dk_at dksX2_endsAll_3 21 rfl rfl)
theorem dX2_endsAll_95 : decode cX2_endsAll 95 = .ok (.invokestatic 475, 3) := dk_184 1 219 (dk_at dksX2_endsAll_4 0 rfl rfl)
theorem dX2_endsAll_98 : decode cX2_endsAll 98 = .ok (.ifCond .eq 22, 3) := dk_153 0 22 (dk_at dksX2_endsAll_4 3 rfl rfl)
theorem dX2_endsAll_101 : decode cX2_endsAll 101 = .ok (.aload_n 0, 1) := dk_42 (dk_at dksX2_endsAll_4 6 rfl rfl)
theorem dX2_endsAll_102 : decode cX2_endsAll 102 = .ok (.getfield 129, 3) := dk_180 0 129 (dk_at dksX2_endsAll_4 7 rfl rfl)
theorem dX2_endsAll_105 : decode cX2_endsAll 105 = .ok (.iload 4, 2) := dk_21 4 (dk_at dksX2_endsAll_4 10 rfl rfl)
theorem dX2_endsAll_107 : decode cX2_endsAll 107 = .ok (.iconst 3, 1) := dk_6 (dk_at dksX2_endsAll_4 12 rfl rfl)
theorem dX2_endsAll_108 : decode cX2_endsAll 108 = .ok (.iastore, 1) := dk_79 (dk_at dksX2_endsAll_4 13 rfl rfl)
theorem dX2_endsAll_109 : decode cX2_endsAll 109 = .ok (.aload_n 0, 1) := dk_42 (dk_at dksX2_endsAll_4 14 rfl rfl)
theorem dX2_endsAll_110 : decode cX2_endsAll 110 = .ok (.getfield 132, 3) := dk_180 0 132 (dk_at dksX2_endsAll_4 15 rfl rfl)
theorem dX2_endsAll_113 : decode cX2_endsAll 113 = .ok (.iload 4, 2) := dk_21 4 (dk_at dksX2_endsAll_4 18 rfl rfl)
theorem dX2_endsAll_115 : decode cX2_endsAll 115 = .ok (.aload_n 0, 1) := dk_42 (dk_at dksX2_endsAll_4 20 rfl rfl)
theorem dX2_endsAll_116 : decode cX2_endsAll 116 = .ok (.getfield 384, 3) := dk_180 1 128 (dk_at dksX2_endsAll_4 21 rfl rfl)
theorem dX2_endsAll_119 : decode cX2_endsAll 119 = .ok (.iastore, 1) := dk_79 (dk_at dksX2_endsAll_5 0 rfl rfl)
theorem dX2_endsAll_120 : decode cX2_endsAll 120 = .ok (.iinc 4 1, 3) := dk_132 4 1 (dk_at dksX2_endsAll_5 1 rfl rfl)
theorem dX2_endsAll_123 : decode cX2_endsAll 123 = .ok (.goto (-43), 3) := dk_167 255 213 (dk_at dksX2_endsAll_5 4 rfl rfl)
theorem dX2_endsAll_126 : decode cX2_endsAll 126 = .ok (.aload_n 0, 1) := dk_42 (dk_at dksX2_endsAll_5 7 rfl rfl)
theorem dX2_endsAll_127 : decode cX2_endsAll 127 = .ok (.iload_n 1, 1) := dk_27 (dk_at dksX2_endsAll_5 8 rfl rfl)
theorem dX2_endsAll_128 : decode cX2_endsAll 128 = .ok (.iload_n 3, 1) := dk_29 (dk_at dksX2_endsAll_5 9 rfl rfl)
theorem dX2_endsAll_129 : decode cX2_endsAll 129 = .ok (.invokevirtual 459, 3) := dk_182 1 203 (dk_at dksX2_endsAll_5 10 rfl rfl)
theorem dX2_endsAll_132 : decode cX2_endsAll 132 = .ok (.goto 6, 3) := dk_167 0 6 (dk_at dksX2_endsAll_5 13 rfl rfl)
theorem dX2_endsAll_135 : decode cX2_endsAll 135 = .ok (.iinc 2 1, 3) := dk_132 2 1 (dk_at dksX2_endsAll_5 16 rfl rfl)
theorem dX2_endsAll_138 : decode cX2_endsAll 138 = .ok (.goto (-126), 3) := dk_167 255 130 (dk_at dksX2_endsAll_5 19 rfl rfl)
theorem dX2_endsAll_141 : decode cX2_endsAll 141 = .ok (.iinc 1 1, 3) := dk_132 1 1 (dk_at dksX2_endsAll_6 0 rfl rfl)
theorem dX2_endsAll_144 : decode cX2_endsAll 144 = .ok (.goto (-142), 3) := dk_167 255 114 (dk_at dksX2_endsAll_6 3 rfl rfl)
theorem dX2_endsAll_147 : decode cX2_endsAll 147 = .ok (.return_, 1) := dk_177 (dk_at dksX2_endsAll_6 6 rfl rfl)
abbrev cX2_comes : ByteArray := prog_25_method_80_code
def yX2_comes : MethodName := ⟨RX2, "comes", "(I)V"⟩
def dkwX2_comes_6 : List UInt8 := [46, 42, 180, 0, 108, 27, 46, 182, 1, 247, 177]
abbrev dktX2_comes_6 : List UInt8 := dkwX2_comes_6 ++ []
def dkwX2_comes_5 : List UInt8 := [182, 1, 244, 167, 0, 31, 42, 42, 180, 0, 102, 27, 46, 42, 180, 0, 99, 27, 46, 42, 180, 0, 105, 27]
abbrev dktX2_comes_5 : List UInt8 := dkwX2_comes_5 ++ dktX2_comes_6
def dkwX2_comes_4 : List UInt8 := [160, 0, 28, 42, 42, 180, 0, 102, 27, 46, 42, 180, 0, 99, 27, 46, 42, 180, 0, 105, 27, 46]
abbrev dktX2_comes_4 : List UInt8 := dkwX2_comes_4 ++ dktX2_comes_5
def dkwX2_comes_3 : List UInt8 := [180, 0, 108, 27, 46, 42, 180, 0, 111, 27, 46, 182, 1, 241, 167, 0, 66, 42, 180, 0, 96, 27, 46, 4]
abbrev dktX2_comes_3 : List UInt8 := dkwX2_comes_3 ++ dktX2_comes_4
def dkwX2_comes_2 : List UInt8 := [154, 0, 40, 42, 42, 180, 0, 102, 27, 46, 42, 180, 0, 99, 27, 46, 42, 180, 0, 105, 27, 46, 42]
abbrev dktX2_comes_2 : List UInt8 := dkwX2_comes_2 ++ dktX2_comes_3
def dkwX2_comes_1 : List UInt8 := [180, 0, 123, 27, 46, 181, 1, 161, 42, 42, 180, 0, 126, 27, 46, 181, 1, 164, 42, 180, 0, 96, 27, 46]
abbrev dktX2_comes_1 : List UInt8 := dkwX2_comes_1 ++ dktX2_comes_2
def dkwX2_comes_0 : List UInt8 := [42, 42, 180, 0, 117, 27, 46, 181, 1, 155, 42, 42, 180, 0, 120, 27, 46, 181, 1, 158, 42, 42]
abbrev dktX2_comes_0 : List UInt8 := dkwX2_comes_0 ++ dktX2_comes_1
theorem dksX2_comes_0 : cX2_comes.data.toList.drop 0 = dktX2_comes_0 := by decide +kernel
theorem dksX2_comes_1 : cX2_comes.data.toList.drop 22 = dktX2_comes_1 := dk_seg dksX2_comes_0 22 rfl rfl
theorem dksX2_comes_2 : cX2_comes.data.toList.drop 46 = dktX2_comes_2 := dk_seg dksX2_comes_1 24 rfl rfl
theorem dksX2_comes_3 : cX2_comes.data.toList.drop 69 = dktX2_comes_3 := dk_seg dksX2_comes_2 23 rfl rfl
theorem dksX2_comes_4 : cX2_comes.data.toList.drop 93 = dktX2_comes_4 := dk_seg dksX2_comes_3 24 rfl rfl
theorem dksX2_comes_5 : cX2_comes.data.toList.drop 115 = dktX2_comes_5 := dk_seg dksX2_comes_4 22 rfl rfl
theorem dksX2_comes_6 : cX2_comes.data.toList.drop 139 = dktX2_comes_6 := dk_seg dksX2_comes_5 24 rfl rfl
theorem dX2_comes_0 : decode cX2_comes 0 = .ok (.aload_n 0, 1) := dk_42 (dk_at dksX2_comes_0 0 rfl rfl)
theorem dX2_comes_1 : decode cX2_comes 1 = .ok (.aload_n 0, 1) := dk_42 (dk_at dksX2_comes_0 1 rfl rfl)
theorem dX2_comes_2 : decode cX2_comes 2 = .ok (.getfield 117, 3) := dk_180 0 117 (dk_at dksX2_comes_0 2 rfl rfl)
theorem dX2_comes_5 : decode cX2_comes 5 = .ok (.iload_n 1, 1) := dk_27 (dk_at dksX2_comes_0 5 rfl rfl)
theorem dX2_comes_6 : decode cX2_comes 6 = .ok (.iaload, 1) := dk_46 (dk_at dksX2_comes_0 6 rfl rfl)
theorem dX2_comes_7 : decode cX2_comes 7 = .ok (.putfield 411, 3) := dk_181 1 155 (dk_at dksX2_comes_0 7 rfl rfl)
theorem dX2_comes_10 : decode cX2_comes 10 = .ok (.aload_n 0, 1) := dk_42 (dk_at dksX2_comes_0 10 rfl rfl)
theorem dX2_comes_11 : decode cX2_comes 11 = .ok (.aload_n 0, 1) := dk_42 (dk_at dksX2_comes_0 11 rfl rfl)
theorem dX2_comes_12 : decode cX2_comes 12 = .ok (.getfield 120, 3) := dk_180 0 120 (dk_at dksX2_comes_0 12 rfl rfl)
theorem dX2_comes_15 : decode cX2_comes 15 = .ok (.iload_n 1, 1) := dk_27 (dk_at dksX2_comes_0 15 rfl rfl)
theorem dX2_comes_16 : decode cX2_comes 16 = .ok (.iaload, 1) := dk_46 (dk_at dksX2_comes_0 16 rfl rfl)
theorem dX2_comes_17 : decode cX2_comes 17 = .ok (.putfield 414, 3) := dk_181 1 158 (dk_at dksX2_comes_0 17 rfl rfl)
theorem dX2_comes_20 : decode cX2_comes 20 = .ok (.aload_n 0, 1) := dk_42 (dk_at dksX2_comes_0 20 rfl rfl)
theorem dX2_comes_21 : decode cX2_comes 21 = .ok (.aload_n 0, 1) := dk_42 (dk_at dksX2_comes_0 21 rfl rfl)
theorem dX2_comes_22 : decode cX2_comes 22 = .ok (.getfield 123, 3) := dk_180 0 123 (dk_at dksX2_comes_1 0 rfl rfl)
theorem dX2_comes_25 : decode cX2_comes 25 = .ok (.iload_n 1, 1) := dk_27 (dk_at dksX2_comes_1 3 rfl rfl)
theorem dX2_comes_26 : decode cX2_comes 26 = .ok (.iaload, 1) := dk_46 (dk_at dksX2_comes_1 4 rfl rfl)
theorem dX2_comes_27 : decode cX2_comes 27 = .ok (.putfield 417, 3) := dk_181 1 161 (dk_at dksX2_comes_1 5 rfl rfl)
theorem dX2_comes_30 : decode cX2_comes 30 = .ok (.aload_n 0, 1) := dk_42 (dk_at dksX2_comes_1 8 rfl rfl)
theorem dX2_comes_31 : decode cX2_comes 31 = .ok (.aload_n 0, 1) := dk_42 (dk_at dksX2_comes_1 9 rfl rfl)
theorem dX2_comes_32 : decode cX2_comes 32 = .ok (.getfield 126, 3) := dk_180 0 126 (dk_at dksX2_comes_1 10 rfl rfl)
theorem dX2_comes_35 : decode cX2_comes 35 = .ok (.iload_n 1, 1) := dk_27 (dk_at dksX2_comes_1 13 rfl rfl)
theorem dX2_comes_36 : decode cX2_comes 36 = .ok (.iaload, 1) := dk_46 (dk_at dksX2_comes_1 14 rfl rfl)
theorem dX2_comes_37 : decode cX2_comes 37 = .ok (.putfield 420, 3) := dk_181 1 164 (dk_at dksX2_comes_1 15 rfl rfl)
theorem dX2_comes_40 : decode cX2_comes 40 = .ok (.aload_n 0, 1) := dk_42 (dk_at dksX2_comes_1 18 rfl rfl)
theorem dX2_comes_41 : decode cX2_comes 41 = .ok (.getfield 96, 3) := dk_180 0 96 (dk_at dksX2_comes_1 19 rfl rfl)
theorem dX2_comes_44 : decode cX2_comes 44 = .ok (.iload_n 1, 1) := dk_27 (dk_at dksX2_comes_1 22 rfl rfl)
theorem dX2_comes_45 : decode cX2_comes 45 = .ok (.iaload, 1) := dk_46 (dk_at dksX2_comes_1 23 rfl rfl)
theorem dX2_comes_46 : decode cX2_comes 46 = .ok (.ifCond .ne 40, 3) := dk_154 0 40 (dk_at dksX2_comes_2 0 rfl rfl)
theorem dX2_comes_49 : decode cX2_comes 49 = .ok (.aload_n 0, 1) := dk_42 (dk_at dksX2_comes_2 3 rfl rfl)
theorem dX2_comes_50 : decode cX2_comes 50 = .ok (.aload_n 0, 1) := dk_42 (dk_at dksX2_comes_2 4 rfl rfl)
theorem dX2_comes_51 : decode cX2_comes 51 = .ok (.getfield 102, 3) := dk_180 0 102 (dk_at dksX2_comes_2 5 rfl rfl)
theorem dX2_comes_54 : decode cX2_comes 54 = .ok (.iload_n 1, 1) := dk_27 (dk_at dksX2_comes_2 8 rfl rfl)
theorem dX2_comes_55 : decode cX2_comes 55 = .ok (.iaload, 1) := dk_46 (dk_at dksX2_comes_2 9 rfl rfl)
theorem dX2_comes_56 : decode cX2_comes 56 = .ok (.aload_n 0, 1) := dk_42 (dk_at dksX2_comes_2 10 rfl rfl)
theorem dX2_comes_57 : decode cX2_comes 57 = .ok (.getfield 99, 3) := dk_180 0 99 (dk_at dksX2_comes_2 11 rfl rfl)
theorem dX2_comes_60 : decode cX2_comes 60 = .ok (.iload_n 1, 1) := dk_27 (dk_at dksX2_comes_2 14 rfl rfl)
theorem dX2_comes_61 : decode cX2_comes 61 = .ok (.iaload, 1) := dk_46 (dk_at dksX2_comes_2 15 rfl rfl)
theorem dX2_comes_62 : decode cX2_comes 62 = .ok (.aload_n 0, 1) := dk_42 (dk_at dksX2_comes_2 16 rfl rfl)
theorem dX2_comes_63 : decode cX2_comes 63 = .ok (.getfield 105, 3) := dk_180 0 105 (dk_at dksX2_comes_2 17 rfl rfl)
theorem dX2_comes_66 : decode cX2_comes 66 = .ok (.iload_n 1, 1) := dk_27 (dk_at dksX2_comes_2 20 rfl rfl)
theorem dX2_comes_67 : decode cX2_comes 67 = .ok (.iaload, 1) := dk_46 (dk_at dksX2_comes_2 21 rfl rfl)
theorem dX2_comes_68 : decode cX2_comes 68 = .ok (.aload_n 0, 1) := dk_42 (dk_at dksX2_comes_2 22 rfl rfl)
theorem dX2_comes_69 : decode cX2_comes 69 = .ok (.getfield 108, 3) := dk_180 0 108 (dk_at dksX2_comes_3 0 rfl rfl)
theorem dX2_comes_72 : decode cX2_comes 72 = .ok (.iload_n 1, 1) := dk_27 (dk_at dksX2_comes_3 3 rfl rfl)
theorem dX2_comes_73 : decode cX2_comes 73 = .ok (.iaload, 1) := dk_46 (dk_at dksX2_comes_3 4 rfl rfl)
theorem dX2_comes_74 : decode cX2_comes 74 = .ok (.aload_n 0, 1) := dk_42 (dk_at dksX2_comes_3 5 rfl rfl)
theorem dX2_comes_75 : decode cX2_comes 75 = .ok (.getfield 111, 3) := dk_180 0 111 (dk_at dksX2_comes_3 6 rfl rfl)
theorem dX2_comes_78 : decode cX2_comes 78 = .ok (.iload_n 1, 1) := dk_27 (dk_at dksX2_comes_3 9 rfl rfl)
theorem dX2_comes_79 : decode cX2_comes 79 = .ok (.iaload, 1) := dk_46 (dk_at dksX2_comes_3 10 rfl rfl)
theorem dX2_comes_80 : decode cX2_comes 80 = .ok (.invokevirtual 497, 3) := dk_182 1 241 (dk_at dksX2_comes_3 11 rfl rfl)
theorem dX2_comes_83 : decode cX2_comes 83 = .ok (.goto 66, 3) := dk_167 0 66 (dk_at dksX2_comes_3 14 rfl rfl)
theorem dX2_comes_86 : decode cX2_comes 86 = .ok (.aload_n 0, 1) := dk_42 (dk_at dksX2_comes_3 17 rfl rfl)
theorem dX2_comes_87 : decode cX2_comes 87 = .ok (.getfield 96, 3) := dk_180 0 96 (dk_at dksX2_comes_3 18 rfl rfl)
theorem dX2_comes_90 : decode cX2_comes 90 = .ok (.iload_n 1, 1) := dk_27 (dk_at dksX2_comes_3 21 rfl rfl)
theorem dX2_comes_91 : decode cX2_comes 91 = .ok (.iaload, 1) := dk_46 (dk_at dksX2_comes_3 22 rfl rfl)
theorem dX2_comes_92 : decode cX2_comes 92 = .ok (.iconst 1, 1) := dk_4 (dk_at dksX2_comes_3 23 rfl rfl)
theorem dX2_comes_93 : decode cX2_comes 93 = .ok (.if_icmp .ne 28, 3) := dk_160 0 28 (dk_at dksX2_comes_4 0 rfl rfl)
theorem dX2_comes_96 : decode cX2_comes 96 = .ok (.aload_n 0, 1) := dk_42 (dk_at dksX2_comes_4 3 rfl rfl)
theorem dX2_comes_97 : decode cX2_comes 97 = .ok (.aload_n 0, 1) := dk_42 (dk_at dksX2_comes_4 4 rfl rfl)
theorem dX2_comes_98 : decode cX2_comes 98 = .ok (.getfield 102, 3) := dk_180 0 102 (dk_at dksX2_comes_4 5 rfl rfl)
theorem dX2_comes_101 : decode cX2_comes 101 = .ok (.iload_n 1, 1) := dk_27 (dk_at dksX2_comes_4 8 rfl rfl)
theorem dX2_comes_102 : decode cX2_comes 102 = .ok (.iaload, 1) := dk_46 (dk_at dksX2_comes_4 9 rfl rfl)
theorem dX2_comes_103 : decode cX2_comes 103 = .ok (.aload_n 0, 1) := dk_42 (dk_at dksX2_comes_4 10 rfl rfl)
theorem dX2_comes_104 : decode cX2_comes 104 = .ok (.getfield 99, 3) := dk_180 0 99 (dk_at dksX2_comes_4 11 rfl rfl)
theorem dX2_comes_107 : decode cX2_comes 107 = .ok (.iload_n 1, 1) := dk_27 (dk_at dksX2_comes_4 14 rfl rfl)
theorem dX2_comes_108 : decode cX2_comes 108 = .ok (.iaload, 1) := dk_46 (dk_at dksX2_comes_4 15 rfl rfl)
theorem dX2_comes_109 : decode cX2_comes 109 = .ok (.aload_n 0, 1) := dk_42 (dk_at dksX2_comes_4 16 rfl rfl)
theorem dX2_comes_110 : decode cX2_comes 110 = .ok (.getfield 105, 3) := dk_180 0 105 (dk_at dksX2_comes_4 17 rfl rfl)
theorem dX2_comes_113 : decode cX2_comes 113 = .ok (.iload_n 1, 1) := dk_27 (dk_at dksX2_comes_4 20 rfl rfl)
theorem dX2_comes_114 : decode cX2_comes 114 = .ok (.iaload, 1) := dk_46 (dk_at dksX2_comes_4 21 rfl rfl)
theorem dX2_comes_115 : decode cX2_comes 115 = .ok (.invokevirtual 500, 3) := dk_182 1 244 (dk_at dksX2_comes_5 0 rfl rfl)
theorem dX2_comes_118 : decode cX2_comes 118 = .ok (.goto 31, 3) := dk_167 0 31 (dk_at dksX2_comes_5 3 rfl rfl)
theorem dX2_comes_121 : decode cX2_comes 121 = .ok (.aload_n 0, 1) := dk_42 (dk_at dksX2_comes_5 6 rfl rfl)
theorem dX2_comes_122 : decode cX2_comes 122 = .ok (.aload_n 0, 1) := dk_42 (dk_at dksX2_comes_5 7 rfl rfl)
theorem dX2_comes_123 : decode cX2_comes 123 = .ok (.getfield 102, 3) := dk_180 0 102 (dk_at dksX2_comes_5 8 rfl rfl)
theorem dX2_comes_126 : decode cX2_comes 126 = .ok (.iload_n 1, 1) := dk_27 (dk_at dksX2_comes_5 11 rfl rfl)
theorem dX2_comes_127 : decode cX2_comes 127 = .ok (.iaload, 1) := dk_46 (dk_at dksX2_comes_5 12 rfl rfl)
theorem dX2_comes_128 : decode cX2_comes 128 = .ok (.aload_n 0, 1) := dk_42 (dk_at dksX2_comes_5 13 rfl rfl)
theorem dX2_comes_129 : decode cX2_comes 129 = .ok (.getfield 99, 3) := dk_180 0 99 (dk_at dksX2_comes_5 14 rfl rfl)
theorem dX2_comes_132 : decode cX2_comes 132 = .ok (.iload_n 1, 1) := dk_27 (dk_at dksX2_comes_5 17 rfl rfl)
theorem dX2_comes_133 : decode cX2_comes 133 = .ok (.iaload, 1) := dk_46 (dk_at dksX2_comes_5 18 rfl rfl)
theorem dX2_comes_134 : decode cX2_comes 134 = .ok (.aload_n 0, 1) := dk_42 (dk_at dksX2_comes_5 19 rfl rfl)
theorem dX2_comes_135 : decode cX2_comes 135 = .ok (.getfield 105, 3) := dk_180 0 105 (dk_at dksX2_comes_5 20 rfl rfl)
theorem dX2_comes_138 : decode cX2_comes 138 = .ok (.iload_n 1, 1) := dk_27 (dk_at dksX2_comes_5 23 rfl rfl)
theorem dX2_comes_139 : decode cX2_comes 139 = .ok (.iaload, 1) := dk_46 (dk_at dksX2_comes_6 0 rfl rfl)
theorem dX2_comes_140 : decode cX2_comes 140 = .ok (.aload_n 0, 1) := dk_42 (dk_at dksX2_comes_6 1 rfl rfl)
theorem dX2_comes_141 : decode cX2_comes 141 = .ok (.getfield 108, 3) := dk_180 0 108 (dk_at dksX2_comes_6 2 rfl rfl)
theorem dX2_comes_144 : decode cX2_comes 144 = .ok (.iload_n 1, 1) := dk_27 (dk_at dksX2_comes_6 5 rfl rfl)
theorem dX2_comes_145 : decode cX2_comes 145 = .ok (.iaload, 1) := dk_46 (dk_at dksX2_comes_6 6 rfl rfl)
theorem dX2_comes_146 : decode cX2_comes 146 = .ok (.invokevirtual 503, 3) := dk_182 1 247 (dk_at dksX2_comes_6 7 rfl rfl)
theorem dX2_comes_149 : decode cX2_comes 149 = .ok (.return_, 1) := dk_177 (dk_at dksX2_comes_6 10 rfl rfl)
abbrev cX2_dataCome : ByteArray := prog_25_method_77_code
def yX2_dataCome : MethodName := ⟨RX2, "dataCome", "(III)V"⟩
def dkwX2_dataCome_5 : List UInt8 := [27, 29, 21, 4, 182, 1, 234, 54, 5, 167, 255, 233, 177]
abbrev dktX2_dataCome_5 : List UInt8 := dkwX2_dataCome_5 ++ []
def dkwX2_dataCome_4 : List UInt8 := [180, 1, 155, 42, 180, 1, 158, 182, 1, 210, 21, 5, 2, 159, 0, 23, 42, 27, 21, 5, 182, 1, 238, 42]
abbrev dktX2_dataCome_4 : List UInt8 := dkwX2_dataCome_4 ++ dktX2_dataCome_5
def dkwX2_dataCome_3 : List UInt8 := [42, 180, 0, 90, 21, 5, 46, 100, 79, 42, 8, 27, 96, 182, 1, 79, 158, 0, 17, 42, 27, 29, 42]
abbrev dktX2_dataCome_3 : List UInt8 := dkwX2_dataCome_3 ++ dktX2_dataCome_4
def dkwX2_dataCome_2 : List UInt8 := [180, 0, 84, 21, 5, 46, 28, 160, 0, 26, 42, 180, 0, 48, 16, 6, 27, 104, 28, 96, 42, 180, 1, 128]
abbrev dktX2_dataCome_2 : List UInt8 := dkwX2_dataCome_2 ++ dktX2_dataCome_3
def dkwX2_dataCome_1 : List UInt8 := [182, 1, 234, 54, 5, 21, 5, 2, 160, 0, 14, 42, 89, 180, 1, 146, 4, 96, 181, 1, 146, 177, 42]
abbrev dktX2_dataCome_1 : List UInt8 := dkwX2_dataCome_1 ++ dktX2_dataCome_2
def dkwX2_dataCome_0 : List UInt8 := [42, 180, 1, 155, 42, 180, 1, 128, 161, 0, 7, 4, 167, 0, 4, 3, 54, 4, 42, 27, 29, 21, 4]
abbrev dktX2_dataCome_0 : List UInt8 := dkwX2_dataCome_0 ++ dktX2_dataCome_1
theorem dksX2_dataCome_0 : cX2_dataCome.data.toList.drop 0 = dktX2_dataCome_0 := by decide +kernel
theorem dksX2_dataCome_1 : cX2_dataCome.data.toList.drop 23 = dktX2_dataCome_1 := dk_seg dksX2_dataCome_0 23 rfl rfl
theorem dksX2_dataCome_2 : cX2_dataCome.data.toList.drop 46 = dktX2_dataCome_2 := dk_seg dksX2_dataCome_1 23 rfl rfl
theorem dksX2_dataCome_3 : cX2_dataCome.data.toList.drop 70 = dktX2_dataCome_3 := dk_seg dksX2_dataCome_2 24 rfl rfl
theorem dksX2_dataCome_4 : cX2_dataCome.data.toList.drop 93 = dktX2_dataCome_4 := dk_seg dksX2_dataCome_3 23 rfl rfl
theorem dksX2_dataCome_5 : cX2_dataCome.data.toList.drop 117 = dktX2_dataCome_5 := dk_seg dksX2_dataCome_4 24 rfl rfl
theorem dX2_dataCome_0 : decode cX2_dataCome 0 = .ok (.aload_n 0, 1) := dk_42 (dk_at dksX2_dataCome_0 0 rfl rfl)
theorem dX2_dataCome_1 : decode cX2_dataCome 1 = .ok (.getfield 411, 3) := dk_180 1 155 (dk_at dksX2_dataCome_0 1 rfl rfl)
theorem dX2_dataCome_4 : decode cX2_dataCome 4 = .ok (.aload_n 0, 1) := dk_42 (dk_at dksX2_dataCome_0 4 rfl rfl)
theorem dX2_dataCome_5 : decode cX2_dataCome 5 = .ok (.getfield 384, 3) := dk_180 1 128 (dk_at dksX2_dataCome_0 5 rfl rfl)
theorem dX2_dataCome_8 : decode cX2_dataCome 8 = .ok (.if_icmp .lt 7, 3) := dk_161 0 7 (dk_at dksX2_dataCome_0 8 rfl rfl)
theorem dX2_dataCome_11 : decode cX2_dataCome 11 = .ok (.iconst 1, 1) := dk_4 (dk_at dksX2_dataCome_0 11 rfl rfl)
theorem dX2_dataCome_12 : decode cX2_dataCome 12 = .ok (.goto 4, 3) := dk_167 0 4 (dk_at dksX2_dataCome_0 12 rfl rfl)
theorem dX2_dataCome_15 : decode cX2_dataCome 15 = .ok (.iconst 0, 1) := dk_3 (dk_at dksX2_dataCome_0 15 rfl rfl)
theorem dX2_dataCome_16 : decode cX2_dataCome 16 = .ok (.istore 4, 2) := dk_54 4 (dk_at dksX2_dataCome_0 16 rfl rfl)
theorem dX2_dataCome_18 : decode cX2_dataCome 18 = .ok (.aload_n 0, 1) := dk_42 (dk_at dksX2_dataCome_0 18 rfl rfl)
theorem dX2_dataCome_19 : decode cX2_dataCome 19 = .ok (.iload_n 1, 1) := dk_27 (dk_at dksX2_dataCome_0 19 rfl rfl)
theorem dX2_dataCome_20 : decode cX2_dataCome 20 = .ok (.iload_n 3, 1) := dk_29 (dk_at dksX2_dataCome_0 20 rfl rfl)
theorem dX2_dataCome_21 : decode cX2_dataCome 21 = .ok (.iload 4, 2) := dk_21 4 (dk_at dksX2_dataCome_0 21 rfl rfl)
theorem dX2_dataCome_23 : decode cX2_dataCome 23 = .ok (.invokevirtual 490, 3) := dk_182 1 234 (dk_at dksX2_dataCome_1 0 rfl rfl)
theorem dX2_dataCome_26 : decode cX2_dataCome 26 = .ok (.istore 5, 2) := dk_54 5 (dk_at dksX2_dataCome_1 3 rfl rfl)
theorem dX2_dataCome_28 : decode cX2_dataCome 28 = .ok (.iload 5, 2) := dk_21 5 (dk_at dksX2_dataCome_1 5 rfl rfl)
theorem dX2_dataCome_30 : decode cX2_dataCome 30 = .ok (.iconst (-1), 1) := dk_2 (dk_at dksX2_dataCome_1 7 rfl rfl)
theorem dX2_dataCome_31 : decode cX2_dataCome 31 = .ok (.if_icmp .ne 14, 3) := dk_160 0 14 (dk_at dksX2_dataCome_1 8 rfl rfl)
theorem dX2_dataCome_34 : decode cX2_dataCome 34 = .ok (.aload_n 0, 1) := dk_42 (dk_at dksX2_dataCome_1 11 rfl rfl)
theorem dX2_dataCome_35 : decode cX2_dataCome 35 = .ok (.dup, 1) := dk_89 (dk_at dksX2_dataCome_1 12 rfl rfl)
theorem dX2_dataCome_36 : decode cX2_dataCome 36 = .ok (.getfield 402, 3) := dk_180 1 146 (dk_at dksX2_dataCome_1 13 rfl rfl)
theorem dX2_dataCome_39 : decode cX2_dataCome 39 = .ok (.iconst 1, 1) := dk_4 (dk_at dksX2_dataCome_1 16 rfl rfl)
theorem dX2_dataCome_40 : decode cX2_dataCome 40 = .ok (.iadd, 1) := dk_96 (dk_at dksX2_dataCome_1 17 rfl rfl)
theorem dX2_dataCome_41 : decode cX2_dataCome 41 = .ok (.putfield 402, 3) := dk_181 1 146 (dk_at dksX2_dataCome_1 18 rfl rfl)
theorem dX2_dataCome_44 : decode cX2_dataCome 44 = .ok (.return_, 1) := dk_177 (dk_at dksX2_dataCome_1 21 rfl rfl)
theorem dX2_dataCome_45 : decode cX2_dataCome 45 = .ok (.aload_n 0, 1) := dk_42 (dk_at dksX2_dataCome_1 22 rfl rfl)
theorem dX2_dataCome_46 : decode cX2_dataCome 46 = .ok (.getfield 84, 3) := dk_180 0 84 (dk_at dksX2_dataCome_2 0 rfl rfl)
theorem dX2_dataCome_49 : decode cX2_dataCome 49 = .ok (.iload 5, 2) := dk_21 5 (dk_at dksX2_dataCome_2 3 rfl rfl)
theorem dX2_dataCome_51 : decode cX2_dataCome 51 = .ok (.iaload, 1) := dk_46 (dk_at dksX2_dataCome_2 5 rfl rfl)
theorem dX2_dataCome_52 : decode cX2_dataCome 52 = .ok (.iload_n 2, 1) := dk_28 (dk_at dksX2_dataCome_2 6 rfl rfl)
theorem dX2_dataCome_53 : decode cX2_dataCome 53 = .ok (.if_icmp .ne 26, 3) := dk_160 0 26 (dk_at dksX2_dataCome_2 7 rfl rfl)
theorem dX2_dataCome_56 : decode cX2_dataCome 56 = .ok (.aload_n 0, 1) := dk_42 (dk_at dksX2_dataCome_2 10 rfl rfl)
theorem dX2_dataCome_57 : decode cX2_dataCome 57 = .ok (.getfield 48, 3) := dk_180 0 48 (dk_at dksX2_dataCome_2 11 rfl rfl)
theorem dX2_dataCome_60 : decode cX2_dataCome 60 = .ok (.bipush 6, 2) := dk_16 6 (dk_at dksX2_dataCome_2 14 rfl rfl)
theorem dX2_dataCome_62 : decode cX2_dataCome 62 = .ok (.iload_n 1, 1) := dk_27 (dk_at dksX2_dataCome_2 16 rfl rfl)
theorem dX2_dataCome_63 : decode cX2_dataCome 63 = .ok (.imul, 1) := dk_104 (dk_at dksX2_dataCome_2 17 rfl rfl)
theorem dX2_dataCome_64 : decode cX2_dataCome 64 = .ok (.iload_n 2, 1) := dk_28 (dk_at dksX2_dataCome_2 18 rfl rfl)
theorem dX2_dataCome_65 : decode cX2_dataCome 65 = .ok (.iadd, 1) := dk_96 (dk_at dksX2_dataCome_2 19 rfl rfl)
theorem dX2_dataCome_66 : decode cX2_dataCome 66 = .ok (.aload_n 0, 1) := dk_42 (dk_at dksX2_dataCome_2 20 rfl rfl)
theorem dX2_dataCome_67 : decode cX2_dataCome 67 = .ok (.getfield 384, 3) := dk_180 1 128 (dk_at dksX2_dataCome_2 21 rfl rfl)
theorem dX2_dataCome_70 : decode cX2_dataCome 70 = .ok (.aload_n 0, 1) := dk_42 (dk_at dksX2_dataCome_3 0 rfl rfl)
theorem dX2_dataCome_71 : decode cX2_dataCome 71 = .ok (.getfield 90, 3) := dk_180 0 90 (dk_at dksX2_dataCome_3 1 rfl rfl)
theorem dX2_dataCome_74 : decode cX2_dataCome 74 = .ok (.iload 5, 2) := dk_21 5 (dk_at dksX2_dataCome_3 4 rfl rfl)
theorem dX2_dataCome_76 : decode cX2_dataCome 76 = .ok (.iaload, 1) := dk_46 (dk_at dksX2_dataCome_3 6 rfl rfl)
theorem dX2_dataCome_77 : decode cX2_dataCome 77 = .ok (.isub, 1) := dk_100 (dk_at dksX2_dataCome_3 7 rfl rfl)
theorem dX2_dataCome_78 : decode cX2_dataCome 78 = .ok (.iastore, 1) := dk_79 (dk_at dksX2_dataCome_3 8 rfl rfl)
theorem dX2_dataCome_79 : decode cX2_dataCome 79 = .ok (.aload_n 0, 1) := dk_42 (dk_at dksX2_dataCome_3 9 rfl rfl)
theorem dX2_dataCome_80 : decode cX2_dataCome 80 = .ok (.iconst 5, 1) := dk_8 (dk_at dksX2_dataCome_3 10 rfl rfl)
theorem dX2_dataCome_81 : decode cX2_dataCome 81 = .ok (.iload_n 1, 1) := dk_27 (dk_at dksX2_dataCome_3 11 rfl rfl)
theorem dX2_dataCome_82 : decode cX2_dataCome 82 = .ok (.iadd, 1) := dk_96 (dk_at dksX2_dataCome_3 12 rfl rfl)
theorem dX2_dataCome_83 : decode cX2_dataCome 83 = .ok (.invokevirtual 335, 3) := dk_182 1 79 (dk_at dksX2_dataCome_3 13 rfl rfl)
theorem dX2_dataCome_86 : decode cX2_dataCome 86 = .ok (.ifCond .le 17, 3) := dk_158 0 17 (dk_at dksX2_dataCome_3 16 rfl rfl)
theorem dX2_dataCome_89 : decode cX2_dataCome 89 = .ok (.aload_n 0, 1) := dk_42 (dk_at dksX2_dataCome_3 19 rfl rfl)
theorem dX2_dataCome_90 : decode cX2_dataCome 90 = .ok (.iload_n 1, 1) := dk_27 (dk_at dksX2_dataCome_3 20 rfl rfl)
theorem dX2_dataCome_91 : decode cX2_dataCome 91 = .ok (.iload_n 3, 1) := dk_29 (dk_at dksX2_dataCome_3 21 rfl rfl)
theorem dX2_dataCome_92 : decode cX2_dataCome 92 = .ok (.aload_n 0, 1) := dk_42 (dk_at dksX2_dataCome_3 22 rfl rfl)
theorem dX2_dataCome_93 : decode cX2_dataCome 93 = .ok (.getfield 411, 3) := dk_180 1 155 (dk_at dksX2_dataCome_4 0 rfl rfl)
theorem dX2_dataCome_96 : decode cX2_dataCome 96 = .ok (.aload_n 0, 1) := dk_42 (dk_at dksX2_dataCome_4 3 rfl rfl)
theorem dX2_dataCome_97 : decode cX2_dataCome 97 = .ok (.getfield 414, 3) := dk_180 1 158 (dk_at dksX2_dataCome_4 4 rfl rfl)
theorem dX2_dataCome_100 : decode cX2_dataCome 100 = .ok (.invokevirtual 466, 3) := dk_182 1 210 (dk_at dksX2_dataCome_4 7 rfl rfl)
theorem dX2_dataCome_103 : decode cX2_dataCome 103 = .ok (.iload 5, 2) := dk_21 5 (dk_at dksX2_dataCome_4 10 rfl rfl)
theorem dX2_dataCome_105 : decode cX2_dataCome 105 = .ok (.iconst (-1), 1) := dk_2 (dk_at dksX2_dataCome_4 12 rfl rfl)
theorem dX2_dataCome_106 : decode cX2_dataCome 106 = .ok (.if_icmp .eq 23, 3) := dk_159 0 23 (dk_at dksX2_dataCome_4 13 rfl rfl)
theorem dX2_dataCome_109 : decode cX2_dataCome 109 = .ok (.aload_n 0, 1) := dk_42 (dk_at dksX2_dataCome_4 16 rfl rfl)
theorem dX2_dataCome_110 : decode cX2_dataCome 110 = .ok (.iload_n 1, 1) := dk_27 (dk_at dksX2_dataCome_4 17 rfl rfl)
theorem dX2_dataCome_111 : decode cX2_dataCome 111 = .ok (.iload 5, 2) := dk_21 5 (dk_at dksX2_dataCome_4 18 rfl rfl)
theorem dX2_dataCome_113 : decode cX2_dataCome 113 = .ok (.invokevirtual 494, 3) := dk_182 1 238 (dk_at dksX2_dataCome_4 20 rfl rfl)
theorem dX2_dataCome_116 : decode cX2_dataCome 116 = .ok (.aload_n 0, 1) := dk_42 (dk_at dksX2_dataCome_4 23 rfl rfl)
theorem dX2_dataCome_117 : decode cX2_dataCome 117 = .ok (.iload_n 1, 1) := dk_27 (dk_at dksX2_dataCome_5 0 rfl rfl)
theorem dX2_dataCome_118 : decode cX2_dataCome 118 = .ok (.iload_n 3, 1) := dk_29 (dk_at dksX2_dataCome_5 1 rfl rfl)
theorem dX2_dataCome_119 : decode cX2_dataCome 119 = .ok (.iload 4, 2) := dk_21 4 (dk_at dksX2_dataCome_5 2 rfl rfl)
theorem dX2_dataCome_121 : decode cX2_dataCome 121 = .ok (.invokevirtual 490, 3) := dk_182 1 234 (dk_at dksX2_dataCome_5 4 rfl rfl)
theorem dX2_dataCome_124 : decode cX2_dataCome 124 = .ok (.istore 5, 2) := dk_54 5 (dk_at dksX2_dataCome_5 7 rfl rfl)
theorem dX2_dataCome_126 : decode cX2_dataCome 126 = .ok (.goto (-23), 3) := dk_167 255 233 (dk_at dksX2_dataCome_5 9 rfl rfl)
theorem dX2_dataCome_129 : decode cX2_dataCome 129 = .ok (.return_, 1) := dk_177 (dk_at dksX2_dataCome_5 12 rfl rfl)
abbrev cX2_firstFor : ByteArray := prog_25_method_76_code
def yX2_firstFor : MethodName := ⟨RX2, "firstFor", "(IIZ)I"⟩
def dkwX2_firstFor_2 : List UInt8 := [153, 0, 11, 16, 64, 27, 104, 21, 4, 96, 172, 132, 4, 1, 167, 255, 199, 2, 172]
abbrev dktX2_firstFor_2 : List UInt8 := dkwX2_firstFor_2 ++ []
def dkwX2_firstFor_1 : List UInt8 := [96, 46, 28, 160, 0, 30, 42, 180, 0, 69, 16, 64, 27, 104, 21, 4, 96, 46, 153, 0, 7, 29]
abbrev dktX2_firstFor_1 : List UInt8 := dkwX2_firstFor_1 ++ dktX2_firstFor_2
def dkwX2_firstFor_0 : List UInt8 := [3, 54, 4, 21, 4, 42, 180, 0, 63, 27, 46, 162, 0, 52, 42, 180, 0, 66, 16, 64, 27, 104, 21, 4]
abbrev dktX2_firstFor_0 : List UInt8 := dkwX2_firstFor_0 ++ dktX2_firstFor_1
theorem dksX2_firstFor_0 : cX2_firstFor.data.toList.drop 0 = dktX2_firstFor_0 := by decide +kernel
theorem dksX2_firstFor_1 : cX2_firstFor.data.toList.drop 24 = dktX2_firstFor_1 := dk_seg dksX2_firstFor_0 24 rfl rfl
theorem dksX2_firstFor_2 : cX2_firstFor.data.toList.drop 46 = dktX2_firstFor_2 := dk_seg dksX2_firstFor_1 22 rfl rfl
theorem dX2_firstFor_0 : decode cX2_firstFor 0 = .ok (.iconst 0, 1) := dk_3 (dk_at dksX2_firstFor_0 0 rfl rfl)
theorem dX2_firstFor_1 : decode cX2_firstFor 1 = .ok (.istore 4, 2) := dk_54 4 (dk_at dksX2_firstFor_0 1 rfl rfl)
theorem dX2_firstFor_3 : decode cX2_firstFor 3 = .ok (.iload 4, 2) := dk_21 4 (dk_at dksX2_firstFor_0 3 rfl rfl)
theorem dX2_firstFor_5 : decode cX2_firstFor 5 = .ok (.aload_n 0, 1) := dk_42 (dk_at dksX2_firstFor_0 5 rfl rfl)
theorem dX2_firstFor_6 : decode cX2_firstFor 6 = .ok (.getfield 63, 3) := dk_180 0 63 (dk_at dksX2_firstFor_0 6 rfl rfl)
theorem dX2_firstFor_9 : decode cX2_firstFor 9 = .ok (.iload_n 1, 1) := dk_27 (dk_at dksX2_firstFor_0 9 rfl rfl)
theorem dX2_firstFor_10 : decode cX2_firstFor 10 = .ok (.iaload, 1) := dk_46 (dk_at dksX2_firstFor_0 10 rfl rfl)
theorem dX2_firstFor_11 : decode cX2_firstFor 11 = .ok (.if_icmp .ge 52, 3) := dk_162 0 52 (dk_at dksX2_firstFor_0 11 rfl rfl)
theorem dX2_firstFor_14 : decode cX2_firstFor 14 = .ok (.aload_n 0, 1) := dk_42 (dk_at dksX2_firstFor_0 14 rfl rfl)
theorem dX2_firstFor_15 : decode cX2_firstFor 15 = .ok (.getfield 66, 3) := dk_180 0 66 (dk_at dksX2_firstFor_0 15 rfl rfl)
theorem dX2_firstFor_18 : decode cX2_firstFor 18 = .ok (.bipush 64, 2) := dk_16 64 (dk_at dksX2_firstFor_0 18 rfl rfl)
theorem dX2_firstFor_20 : decode cX2_firstFor 20 = .ok (.iload_n 1, 1) := dk_27 (dk_at dksX2_firstFor_0 20 rfl rfl)
theorem dX2_firstFor_21 : decode cX2_firstFor 21 = .ok (.imul, 1) := dk_104 (dk_at dksX2_firstFor_0 21 rfl rfl)
theorem dX2_firstFor_22 : decode cX2_firstFor 22 = .ok (.iload 4, 2) := dk_21 4 (dk_at dksX2_firstFor_0 22 rfl rfl)
theorem dX2_firstFor_24 : decode cX2_firstFor 24 = .ok (.iadd, 1) := dk_96 (dk_at dksX2_firstFor_1 0 rfl rfl)
theorem dX2_firstFor_25 : decode cX2_firstFor 25 = .ok (.iaload, 1) := dk_46 (dk_at dksX2_firstFor_1 1 rfl rfl)
theorem dX2_firstFor_26 : decode cX2_firstFor 26 = .ok (.iload_n 2, 1) := dk_28 (dk_at dksX2_firstFor_1 2 rfl rfl)
theorem dX2_firstFor_27 : decode cX2_firstFor 27 = .ok (.if_icmp .ne 30, 3) := dk_160 0 30 (dk_at dksX2_firstFor_1 3 rfl rfl)
theorem dX2_firstFor_30 : decode cX2_firstFor 30 = .ok (.aload_n 0, 1) := dk_42 (dk_at dksX2_firstFor_1 6 rfl rfl)
theorem dX2_firstFor_31 : decode cX2_firstFor 31 = .ok (.getfield 69, 3) := dk_180 0 69 (dk_at dksX2_firstFor_1 7 rfl rfl)
theorem dX2_firstFor_34 : decode cX2_firstFor 34 = .ok (.bipush 64, 2) := dk_16 64 (dk_at dksX2_firstFor_1 10 rfl rfl)
theorem dX2_firstFor_36 : decode cX2_firstFor 36 = .ok (.iload_n 1, 1) := dk_27 (dk_at dksX2_firstFor_1 12 rfl rfl)
theorem dX2_firstFor_37 : decode cX2_firstFor 37 = .ok (.imul, 1) := dk_104 (dk_at dksX2_firstFor_1 13 rfl rfl)
theorem dX2_firstFor_38 : decode cX2_firstFor 38 = .ok (.iload 4, 2) := dk_21 4 (dk_at dksX2_firstFor_1 14 rfl rfl)
theorem dX2_firstFor_40 : decode cX2_firstFor 40 = .ok (.iadd, 1) := dk_96 (dk_at dksX2_firstFor_1 16 rfl rfl)
theorem dX2_firstFor_41 : decode cX2_firstFor 41 = .ok (.iaload, 1) := dk_46 (dk_at dksX2_firstFor_1 17 rfl rfl)
theorem dX2_firstFor_42 : decode cX2_firstFor 42 = .ok (.ifCond .eq 7, 3) := dk_153 0 7 (dk_at dksX2_firstFor_1 18 rfl rfl)
theorem dX2_firstFor_45 : decode cX2_firstFor 45 = .ok (.iload_n 3, 1) := dk_29 (dk_at dksX2_firstFor_1 21 rfl rfl)
theorem dX2_firstFor_46 : decode cX2_firstFor 46 = .ok (.ifCond .eq 11, 3) := dk_153 0 11 (dk_at dksX2_firstFor_2 0 rfl rfl)
theorem dX2_firstFor_49 : decode cX2_firstFor 49 = .ok (.bipush 64, 2) := dk_16 64 (dk_at dksX2_firstFor_2 3 rfl rfl)
theorem dX2_firstFor_51 : decode cX2_firstFor 51 = .ok (.iload_n 1, 1) := dk_27 (dk_at dksX2_firstFor_2 5 rfl rfl)
theorem dX2_firstFor_52 : decode cX2_firstFor 52 = .ok (.imul, 1) := dk_104 (dk_at dksX2_firstFor_2 6 rfl rfl)
theorem dX2_firstFor_53 : decode cX2_firstFor 53 = .ok (.iload 4, 2) := dk_21 4 (dk_at dksX2_firstFor_2 7 rfl rfl)
theorem dX2_firstFor_55 : decode cX2_firstFor 55 = .ok (.iadd, 1) := dk_96 (dk_at dksX2_firstFor_2 9 rfl rfl)
theorem dX2_firstFor_56 : decode cX2_firstFor 56 = .ok (.ireturn, 1) := dk_172 (dk_at dksX2_firstFor_2 10 rfl rfl)
theorem dX2_firstFor_57 : decode cX2_firstFor 57 = .ok (.iinc 4 1, 3) := dk_132 4 1 (dk_at dksX2_firstFor_2 11 rfl rfl)
theorem dX2_firstFor_60 : decode cX2_firstFor 60 = .ok (.goto (-57), 3) := dk_167 255 199 (dk_at dksX2_firstFor_2 14 rfl rfl)
theorem dX2_firstFor_63 : decode cX2_firstFor 63 = .ok (.iconst (-1), 1) := dk_2 (dk_at dksX2_firstFor_2 17 rfl rfl)
theorem dX2_firstFor_64 : decode cX2_firstFor 64 = .ok (.ireturn, 1) := dk_172 (dk_at dksX2_firstFor_2 18 rfl rfl)
abbrev cX2_answers : ByteArray := prog_25_method_75_code
def yX2_answers : MethodName := ⟨RX2, "answers", "(II)V"⟩
def dkwX2_answers_4 : List UInt8 := [177]
abbrev dktX2_answers_4 : List UInt8 := dkwX2_answers_4 ++ []
def dkwX2_answers_3 : List UInt8 := [167, 255, 229, 42, 180, 0, 44, 27, 92, 47, 42, 180, 0, 78, 28, 47, 129, 80, 42, 27, 28, 182, 1, 203]
abbrev dktX2_answers_3 : List UInt8 := dkwX2_answers_3 ++ dktX2_answers_4
def dkwX2_answers_2 : List UInt8 := [162, 0, 27, 42, 180, 0, 75, 28, 47, 29, 184, 1, 219, 153, 0, 8, 42, 29, 182, 1, 167, 132, 3, 1]
abbrev dktX2_answers_2 : List UInt8 := dkwX2_answers_2 ++ dktX2_answers_3
def dkwX2_answers_1 : List UInt8 := [27, 29, 42, 180, 0, 66, 28, 46, 182, 1, 213, 132, 3, 1, 167, 255, 220, 3, 62, 29, 16, 64]
abbrev dktX2_answers_1 : List UInt8 := dkwX2_answers_1 ++ dktX2_answers_2
def dkwX2_answers_0 : List UInt8 := [3, 62, 29, 42, 180, 1, 83, 162, 0, 34, 42, 180, 0, 72, 28, 46, 29, 184, 0, 173, 153, 0, 15, 42]
abbrev dktX2_answers_0 : List UInt8 := dkwX2_answers_0 ++ dktX2_answers_1
theorem dksX2_answers_0 : cX2_answers.data.toList.drop 0 = dktX2_answers_0 := by decide +kernel
theorem dksX2_answers_1 : cX2_answers.data.toList.drop 24 = dktX2_answers_1 := dk_seg dksX2_answers_0 24 rfl rfl
theorem dksX2_answers_2 : cX2_answers.data.toList.drop 46 = dktX2_answers_2 := dk_seg dksX2_answers_1 22 rfl rfl
theorem dksX2_answers_3 : cX2_answers.data.toList.drop 70 = dktX2_answers_3 := dk_seg dksX2_answers_2 24 rfl rfl
theorem dksX2_answers_4 : cX2_answers.data.toList.drop 94 = dktX2_answers_4 := dk_seg dksX2_answers_3 24 rfl rfl
theorem dX2_answers_0 : decode cX2_answers 0 = .ok (.iconst 0, 1) := dk_3 (dk_at dksX2_answers_0 0 rfl rfl)
theorem dX2_answers_1 : decode cX2_answers 1 = .ok (.istore_n 3, 1) := dk_62 (dk_at dksX2_answers_0 1 rfl rfl)
theorem dX2_answers_2 : decode cX2_answers 2 = .ok (.iload_n 3, 1) := dk_29 (dk_at dksX2_answers_0 2 rfl rfl)
theorem dX2_answers_3 : decode cX2_answers 3 = .ok (.aload_n 0, 1) := dk_42 (dk_at dksX2_answers_0 3 rfl rfl)
theorem dX2_answers_4 : decode cX2_answers 4 = .ok (.getfield 339, 3) := dk_180 1 83 (dk_at dksX2_answers_0 4 rfl rfl)
theorem dX2_answers_7 : decode cX2_answers 7 = .ok (.if_icmp .ge 34, 3) := dk_162 0 34 (dk_at dksX2_answers_0 7 rfl rfl)
theorem dX2_answers_10 : decode cX2_answers 10 = .ok (.aload_n 0, 1) := dk_42 (dk_at dksX2_answers_0 10 rfl rfl)
theorem dX2_answers_11 : decode cX2_answers 11 = .ok (.getfield 72, 3) := dk_180 0 72 (dk_at dksX2_answers_0 11 rfl rfl)
theorem dX2_answers_14 : decode cX2_answers 14 = .ok (.iload_n 2, 1) := dk_28 (dk_at dksX2_answers_0 14 rfl rfl)
theorem dX2_answers_15 : decode cX2_answers 15 = .ok (.iaload, 1) := dk_46 (dk_at dksX2_answers_0 15 rfl rfl)
theorem dX2_answers_16 : decode cX2_answers 16 = .ok (.iload_n 3, 1) := dk_29 (dk_at dksX2_answers_0 16 rfl rfl)
theorem dX2_answers_17 : decode cX2_answers 17 = .ok (.invokestatic 173, 3) := dk_184 0 173 (dk_at dksX2_answers_0 17 rfl rfl)
theorem dX2_answers_20 : decode cX2_answers 20 = .ok (.ifCond .eq 15, 3) := dk_153 0 15 (dk_at dksX2_answers_0 20 rfl rfl)
theorem dX2_answers_23 : decode cX2_answers 23 = .ok (.aload_n 0, 1) := dk_42 (dk_at dksX2_answers_0 23 rfl rfl)
theorem dX2_answers_24 : decode cX2_answers 24 = .ok (.iload_n 1, 1) := dk_27 (dk_at dksX2_answers_1 0 rfl rfl)
theorem dX2_answers_25 : decode cX2_answers 25 = .ok (.iload_n 3, 1) := dk_29 (dk_at dksX2_answers_1 1 rfl rfl)
theorem dX2_answers_26 : decode cX2_answers 26 = .ok (.aload_n 0, 1) := dk_42 (dk_at dksX2_answers_1 2 rfl rfl)
theorem dX2_answers_27 : decode cX2_answers 27 = .ok (.getfield 66, 3) := dk_180 0 66 (dk_at dksX2_answers_1 3 rfl rfl)
theorem dX2_answers_30 : decode cX2_answers 30 = .ok (.iload_n 2, 1) := dk_28 (dk_at dksX2_answers_1 6 rfl rfl)
theorem dX2_answers_31 : decode cX2_answers 31 = .ok (.iaload, 1) := dk_46 (dk_at dksX2_answers_1 7 rfl rfl)
theorem dX2_answers_32 : decode cX2_answers 32 = .ok (.invokevirtual 469, 3) := dk_182 1 213 (dk_at dksX2_answers_1 8 rfl rfl)
theorem dX2_answers_35 : decode cX2_answers 35 = .ok (.iinc 3 1, 3) := dk_132 3 1 (dk_at dksX2_answers_1 11 rfl rfl)
theorem dX2_answers_38 : decode cX2_answers 38 = .ok (.goto (-36), 3) := dk_167 255 220 (dk_at dksX2_answers_1 14 rfl rfl)
theorem dX2_answers_41 : decode cX2_answers 41 = .ok (.iconst 0, 1) := dk_3 (dk_at dksX2_answers_1 17 rfl rfl)
theorem dX2_answers_42 : decode cX2_answers 42 = .ok (.istore_n 3, 1) := dk_62 (dk_at dksX2_answers_1 18 rfl rfl)
theorem dX2_answers_43 : decode cX2_answers 43 = .ok (.iload_n 3, 1) := dk_29 (dk_at dksX2_answers_1 19 rfl rfl)
theorem dX2_answers_44 : decode cX2_answers 44 = .ok (.bipush 64, 2) := dk_16 64 (dk_at dksX2_answers_1 20 rfl rfl)
theorem dX2_answers_46 : decode cX2_answers 46 = .ok (.if_icmp .ge 27, 3) := dk_162 0 27 (dk_at dksX2_answers_2 0 rfl rfl)
theorem dX2_answers_49 : decode cX2_answers 49 = .ok (.aload_n 0, 1) := dk_42 (dk_at dksX2_answers_2 3 rfl rfl)
theorem dX2_answers_50 : decode cX2_answers 50 = .ok (.getfield 75, 3) := dk_180 0 75 (dk_at dksX2_answers_2 4 rfl rfl)
theorem dX2_answers_53 : decode cX2_answers 53 = .ok (.iload_n 2, 1) := dk_28 (dk_at dksX2_answers_2 7 rfl rfl)
theorem dX2_answers_54 : decode cX2_answers 54 = .ok (.laload, 1) := dk_47 (dk_at dksX2_answers_2 8 rfl rfl)
theorem dX2_answers_55 : decode cX2_answers 55 = .ok (.iload_n 3, 1) := dk_29 (dk_at dksX2_answers_2 9 rfl rfl)
theorem dX2_answers_56 : decode cX2_answers 56 = .ok (.invokestatic 475, 3) := dk_184 1 219 (dk_at dksX2_answers_2 10 rfl rfl)
theorem dX2_answers_59 : decode cX2_answers 59 = .ok (.ifCond .eq 8, 3) := dk_153 0 8 (dk_at dksX2_answers_2 13 rfl rfl)
theorem dX2_answers_62 : decode cX2_answers 62 = .ok (.aload_n 0, 1) := dk_42 (dk_at dksX2_answers_2 16 rfl rfl)
theorem dX2_answers_63 : decode cX2_answers 63 = .ok (.iload_n 3, 1) := dk_29 (dk_at dksX2_answers_2 17 rfl rfl)
theorem dX2_answers_64 : decode cX2_answers 64 = .ok (.invokevirtual 423, 3) := dk_182 1 167 (dk_at dksX2_answers_2 18 rfl rfl)
theorem dX2_answers_67 : decode cX2_answers 67 = .ok (.iinc 3 1, 3) := dk_132 3 1 (dk_at dksX2_answers_2 21 rfl rfl)
theorem dX2_answers_70 : decode cX2_answers 70 = .ok (.goto (-27), 3) := dk_167 255 229 (dk_at dksX2_answers_3 0 rfl rfl)
theorem dX2_answers_73 : decode cX2_answers 73 = .ok (.aload_n 0, 1) := dk_42 (dk_at dksX2_answers_3 3 rfl rfl)
theorem dX2_answers_74 : decode cX2_answers 74 = .ok (.getfield 44, 3) := dk_180 0 44 (dk_at dksX2_answers_3 4 rfl rfl)
theorem dX2_answers_77 : decode cX2_answers 77 = .ok (.iload_n 1, 1) := dk_27 (dk_at dksX2_answers_3 7 rfl rfl)
theorem dX2_answers_78 : decode cX2_answers 78 = .ok (.dup2, 1) := dk_92 (dk_at dksX2_answers_3 8 rfl rfl)
theorem dX2_answers_79 : decode cX2_answers 79 = .ok (.laload, 1) := dk_47 (dk_at dksX2_answers_3 9 rfl rfl)
theorem dX2_answers_80 : decode cX2_answers 80 = .ok (.aload_n 0, 1) := dk_42 (dk_at dksX2_answers_3 10 rfl rfl)
theorem dX2_answers_81 : decode cX2_answers 81 = .ok (.getfield 78, 3) := dk_180 0 78 (dk_at dksX2_answers_3 11 rfl rfl)
theorem dX2_answers_84 : decode cX2_answers 84 = .ok (.iload_n 2, 1) := dk_28 (dk_at dksX2_answers_3 14 rfl rfl)
theorem dX2_answers_85 : decode cX2_answers 85 = .ok (.laload, 1) := dk_47 (dk_at dksX2_answers_3 15 rfl rfl)
theorem dX2_answers_86 : decode cX2_answers 86 = .ok (.lor, 1) := dk_129 (dk_at dksX2_answers_3 16 rfl rfl)
theorem dX2_answers_87 : decode cX2_answers 87 = .ok (.lastore, 1) := dk_80 (dk_at dksX2_answers_3 17 rfl rfl)
theorem dX2_answers_88 : decode cX2_answers 88 = .ok (.aload_n 0, 1) := dk_42 (dk_at dksX2_answers_3 18 rfl rfl)
theorem dX2_answers_89 : decode cX2_answers 89 = .ok (.iload_n 1, 1) := dk_27 (dk_at dksX2_answers_3 19 rfl rfl)
theorem dX2_answers_90 : decode cX2_answers 90 = .ok (.iload_n 2, 1) := dk_28 (dk_at dksX2_answers_3 20 rfl rfl)
theorem dX2_answers_91 : decode cX2_answers 91 = .ok (.invokevirtual 459, 3) := dk_182 1 203 (dk_at dksX2_answers_3 21 rfl rfl)
theorem dX2_answers_94 : decode cX2_answers 94 = .ok (.return_, 1) := dk_177 (dk_at dksX2_answers_4 0 rfl rfl)
abbrev cX2_nackComes : ByteArray := prog_25_method_78_code
def yX2_nackComes : MethodName := ⟨RX2, "nackComes", "(IIII)V"⟩
def dkwX2_nackComes_6 : List UInt8 := [80, 42, 27, 21, 5, 182, 1, 203, 177]
abbrev dktX2_nackComes_6 : List UInt8 := dkwX2_nackComes_6 ++ []
def dkwX2_nackComes_5 : List UInt8 := [182, 1, 174, 132, 6, 1, 167, 255, 225, 42, 180, 0, 44, 27, 92, 47, 42, 180, 0, 78, 21, 5, 47, 129]
abbrev dktX2_nackComes_5 : List UInt8 := dkwX2_nackComes_5 ++ dktX2_nackComes_6
def dkwX2_nackComes_4 : List UInt8 := [16, 64, 162, 0, 30, 42, 180, 0, 75, 21, 5, 47, 21, 6, 184, 1, 219, 153, 0, 9, 42, 21, 6]
abbrev dktX2_nackComes_4 : List UInt8 := dkwX2_nackComes_4 ++ dktX2_nackComes_5
def dkwX2_nackComes_3 : List UInt8 := [153, 0, 13, 42, 27, 21, 6, 29, 21, 4, 182, 1, 177, 132, 6, 1, 167, 255, 219, 3, 54, 6, 21, 6]
abbrev dktX2_nackComes_3 : List UInt8 := dkwX2_nackComes_3 ++ dktX2_nackComes_4
def dkwX2_nackComes_2 : List UInt8 := [3, 54, 6, 21, 6, 42, 180, 1, 83, 162, 0, 34, 42, 180, 0, 72, 21, 5, 46, 21, 6, 184, 0, 173]
abbrev dktX2_nackComes_2 : List UInt8 := dkwX2_nackComes_2 ++ dktX2_nackComes_3
def dkwX2_nackComes_1 : List UInt8 := [160, 0, 13, 42, 27, 21, 5, 182, 1, 200, 153, 0, 4, 177, 42, 89, 180, 1, 155, 4, 96, 181, 1, 155]
abbrev dktX2_nackComes_1 : List UInt8 := dkwX2_nackComes_1 ++ dktX2_nackComes_2
def dkwX2_nackComes_0 : List UInt8 := [42, 27, 29, 21, 4, 182, 1, 216, 54, 5, 21, 5, 2, 159, 0, 24, 42, 180, 0, 84, 21, 5, 46, 28]
abbrev dktX2_nackComes_0 : List UInt8 := dkwX2_nackComes_0 ++ dktX2_nackComes_1
theorem dksX2_nackComes_0 : cX2_nackComes.data.toList.drop 0 = dktX2_nackComes_0 := by decide +kernel
theorem dksX2_nackComes_1 : cX2_nackComes.data.toList.drop 24 = dktX2_nackComes_1 := dk_seg dksX2_nackComes_0 24 rfl rfl
theorem dksX2_nackComes_2 : cX2_nackComes.data.toList.drop 48 = dktX2_nackComes_2 := dk_seg dksX2_nackComes_1 24 rfl rfl
theorem dksX2_nackComes_3 : cX2_nackComes.data.toList.drop 72 = dktX2_nackComes_3 := dk_seg dksX2_nackComes_2 24 rfl rfl
theorem dksX2_nackComes_4 : cX2_nackComes.data.toList.drop 96 = dktX2_nackComes_4 := dk_seg dksX2_nackComes_3 24 rfl rfl
theorem dksX2_nackComes_5 : cX2_nackComes.data.toList.drop 119 = dktX2_nackComes_5 := dk_seg dksX2_nackComes_4 23 rfl rfl
theorem dksX2_nackComes_6 : cX2_nackComes.data.toList.drop 143 = dktX2_nackComes_6 := dk_seg dksX2_nackComes_5 24 rfl rfl
theorem dX2_nackComes_0 : decode cX2_nackComes 0 = .ok (.aload_n 0, 1) := dk_42 (dk_at dksX2_nackComes_0 0 rfl rfl)
theorem dX2_nackComes_1 : decode cX2_nackComes 1 = .ok (.iload_n 1, 1) := dk_27 (dk_at dksX2_nackComes_0 1 rfl rfl)
theorem dX2_nackComes_2 : decode cX2_nackComes 2 = .ok (.iload_n 3, 1) := dk_29 (dk_at dksX2_nackComes_0 2 rfl rfl)
theorem dX2_nackComes_3 : decode cX2_nackComes 3 = .ok (.iload 4, 2) := dk_21 4 (dk_at dksX2_nackComes_0 3 rfl rfl)
theorem dX2_nackComes_5 : decode cX2_nackComes 5 = .ok (.invokevirtual 472, 3) := dk_182 1 216 (dk_at dksX2_nackComes_0 5 rfl rfl)
theorem dX2_nackComes_8 : decode cX2_nackComes 8 = .ok (.istore 5, 2) := dk_54 5 (dk_at dksX2_nackComes_0 8 rfl rfl)
theorem dX2_nackComes_10 : decode cX2_nackComes 10 = .ok (.iload 5, 2) := dk_21 5 (dk_at dksX2_nackComes_0 10 rfl rfl)
theorem dX2_nackComes_12 : decode cX2_nackComes 12 = .ok (.iconst (-1), 1) := dk_2 (dk_at dksX2_nackComes_0 12 rfl rfl)
theorem dX2_nackComes_13 : decode cX2_nackComes 13 = .ok (.if_icmp .eq 24, 3) := dk_159 0 24 (dk_at dksX2_nackComes_0 13 rfl rfl)
theorem dX2_nackComes_16 : decode cX2_nackComes 16 = .ok (.aload_n 0, 1) := dk_42 (dk_at dksX2_nackComes_0 16 rfl rfl)
theorem dX2_nackComes_17 : decode cX2_nackComes 17 = .ok (.getfield 84, 3) := dk_180 0 84 (dk_at dksX2_nackComes_0 17 rfl rfl)
theorem dX2_nackComes_20 : decode cX2_nackComes 20 = .ok (.iload 5, 2) := dk_21 5 (dk_at dksX2_nackComes_0 20 rfl rfl)
theorem dX2_nackComes_22 : decode cX2_nackComes 22 = .ok (.iaload, 1) := dk_46 (dk_at dksX2_nackComes_0 22 rfl rfl)
theorem dX2_nackComes_23 : decode cX2_nackComes 23 = .ok (.iload_n 2, 1) := dk_28 (dk_at dksX2_nackComes_0 23 rfl rfl)
theorem dX2_nackComes_24 : decode cX2_nackComes 24 = .ok (.if_icmp .ne 13, 3) := dk_160 0 13 (dk_at dksX2_nackComes_1 0 rfl rfl)
theorem dX2_nackComes_27 : decode cX2_nackComes 27 = .ok (.aload_n 0, 1) := dk_42 (dk_at dksX2_nackComes_1 3 rfl rfl)
theorem dX2_nackComes_28 : decode cX2_nackComes 28 = .ok (.iload_n 1, 1) := dk_27 (dk_at dksX2_nackComes_1 4 rfl rfl)
theorem dX2_nackComes_29 : decode cX2_nackComes 29 = .ok (.iload 5, 2) := dk_21 5 (dk_at dksX2_nackComes_1 5 rfl rfl)
theorem dX2_nackComes_31 : decode cX2_nackComes 31 = .ok (.invokevirtual 456, 3) := dk_182 1 200 (dk_at dksX2_nackComes_1 7 rfl rfl)
theorem dX2_nackComes_34 : decode cX2_nackComes 34 = .ok (.ifCond .eq 4, 3) := dk_153 0 4 (dk_at dksX2_nackComes_1 10 rfl rfl)
theorem dX2_nackComes_37 : decode cX2_nackComes 37 = .ok (.return_, 1) := dk_177 (dk_at dksX2_nackComes_1 13 rfl rfl)
theorem dX2_nackComes_38 : decode cX2_nackComes 38 = .ok (.aload_n 0, 1) := dk_42 (dk_at dksX2_nackComes_1 14 rfl rfl)
theorem dX2_nackComes_39 : decode cX2_nackComes 39 = .ok (.dup, 1) := dk_89 (dk_at dksX2_nackComes_1 15 rfl rfl)
theorem dX2_nackComes_40 : decode cX2_nackComes 40 = .ok (.getfield 411, 3) := dk_180 1 155 (dk_at dksX2_nackComes_1 16 rfl rfl)
theorem dX2_nackComes_43 : decode cX2_nackComes 43 = .ok (.iconst 1, 1) := dk_4 (dk_at dksX2_nackComes_1 19 rfl rfl)
theorem dX2_nackComes_44 : decode cX2_nackComes 44 = .ok (.iadd, 1) := dk_96 (dk_at dksX2_nackComes_1 20 rfl rfl)
theorem dX2_nackComes_45 : decode cX2_nackComes 45 = .ok (.putfield 411, 3) := dk_181 1 155 (dk_at dksX2_nackComes_1 21 rfl rfl)
theorem dX2_nackComes_48 : decode cX2_nackComes 48 = .ok (.iconst 0, 1) := dk_3 (dk_at dksX2_nackComes_2 0 rfl rfl)
theorem dX2_nackComes_49 : decode cX2_nackComes 49 = .ok (.istore 6, 2) := dk_54 6 (dk_at dksX2_nackComes_2 1 rfl rfl)
theorem dX2_nackComes_51 : decode cX2_nackComes 51 = .ok (.iload 6, 2) := dk_21 6 (dk_at dksX2_nackComes_2 3 rfl rfl)
theorem dX2_nackComes_53 : decode cX2_nackComes 53 = .ok (.aload_n 0, 1) := dk_42 (dk_at dksX2_nackComes_2 5 rfl rfl)
theorem dX2_nackComes_54 : decode cX2_nackComes 54 = .ok (.getfield 339, 3) := dk_180 1 83 (dk_at dksX2_nackComes_2 6 rfl rfl)
theorem dX2_nackComes_57 : decode cX2_nackComes 57 = .ok (.if_icmp .ge 34, 3) := dk_162 0 34 (dk_at dksX2_nackComes_2 9 rfl rfl)
theorem dX2_nackComes_60 : decode cX2_nackComes 60 = .ok (.aload_n 0, 1) := dk_42 (dk_at dksX2_nackComes_2 12 rfl rfl)
theorem dX2_nackComes_61 : decode cX2_nackComes 61 = .ok (.getfield 72, 3) := dk_180 0 72 (dk_at dksX2_nackComes_2 13 rfl rfl)
theorem dX2_nackComes_64 : decode cX2_nackComes 64 = .ok (.iload 5, 2) := dk_21 5 (dk_at dksX2_nackComes_2 16 rfl rfl)
theorem dX2_nackComes_66 : decode cX2_nackComes 66 = .ok (.iaload, 1) := dk_46 (dk_at dksX2_nackComes_2 18 rfl rfl)
theorem dX2_nackComes_67 : decode cX2_nackComes 67 = .ok (.iload 6, 2) := dk_21 6 (dk_at dksX2_nackComes_2 19 rfl rfl)
theorem dX2_nackComes_69 : decode cX2_nackComes 69 = .ok (.invokestatic 173, 3) := dk_184 0 173 (dk_at dksX2_nackComes_2 21 rfl rfl)
theorem dX2_nackComes_72 : decode cX2_nackComes 72 = .ok (.ifCond .eq 13, 3) := dk_153 0 13 (dk_at dksX2_nackComes_3 0 rfl rfl)
theorem dX2_nackComes_75 : decode cX2_nackComes 75 = .ok (.aload_n 0, 1) := dk_42 (dk_at dksX2_nackComes_3 3 rfl rfl)
theorem dX2_nackComes_76 : decode cX2_nackComes 76 = .ok (.iload_n 1, 1) := dk_27 (dk_at dksX2_nackComes_3 4 rfl rfl)
theorem dX2_nackComes_77 : decode cX2_nackComes 77 = .ok (.iload 6, 2) := dk_21 6 (dk_at dksX2_nackComes_3 5 rfl rfl)
theorem dX2_nackComes_79 : decode cX2_nackComes 79 = .ok (.iload_n 3, 1) := dk_29 (dk_at dksX2_nackComes_3 7 rfl rfl)
theorem dX2_nackComes_80 : decode cX2_nackComes 80 = .ok (.iload 4, 2) := dk_21 4 (dk_at dksX2_nackComes_3 8 rfl rfl)
theorem dX2_nackComes_82 : decode cX2_nackComes 82 = .ok (.invokevirtual 433, 3) := dk_182 1 177 (dk_at dksX2_nackComes_3 10 rfl rfl)
theorem dX2_nackComes_85 : decode cX2_nackComes 85 = .ok (.iinc 6 1, 3) := dk_132 6 1 (dk_at dksX2_nackComes_3 13 rfl rfl)
theorem dX2_nackComes_88 : decode cX2_nackComes 88 = .ok (.goto (-37), 3) := dk_167 255 219 (dk_at dksX2_nackComes_3 16 rfl rfl)
theorem dX2_nackComes_91 : decode cX2_nackComes 91 = .ok (.iconst 0, 1) := dk_3 (dk_at dksX2_nackComes_3 19 rfl rfl)
theorem dX2_nackComes_92 : decode cX2_nackComes 92 = .ok (.istore 6, 2) := dk_54 6 (dk_at dksX2_nackComes_3 20 rfl rfl)
theorem dX2_nackComes_94 : decode cX2_nackComes 94 = .ok (.iload 6, 2) := dk_21 6 (dk_at dksX2_nackComes_3 22 rfl rfl)
theorem dX2_nackComes_96 : decode cX2_nackComes 96 = .ok (.bipush 64, 2) := dk_16 64 (dk_at dksX2_nackComes_4 0 rfl rfl)
theorem dX2_nackComes_98 : decode cX2_nackComes 98 = .ok (.if_icmp .ge 30, 3) := dk_162 0 30 (dk_at dksX2_nackComes_4 2 rfl rfl)
theorem dX2_nackComes_101 : decode cX2_nackComes 101 = .ok (.aload_n 0, 1) := dk_42 (dk_at dksX2_nackComes_4 5 rfl rfl)
theorem dX2_nackComes_102 : decode cX2_nackComes 102 = .ok (.getfield 75, 3) := dk_180 0 75 (dk_at dksX2_nackComes_4 6 rfl rfl)
theorem dX2_nackComes_105 : decode cX2_nackComes 105 = .ok (.iload 5, 2) := dk_21 5 (dk_at dksX2_nackComes_4 9 rfl rfl)
theorem dX2_nackComes_107 : decode cX2_nackComes 107 = .ok (.laload, 1) := dk_47 (dk_at dksX2_nackComes_4 11 rfl rfl)
theorem dX2_nackComes_108 : decode cX2_nackComes 108 = .ok (.iload 6, 2) := dk_21 6 (dk_at dksX2_nackComes_4 12 rfl rfl)
theorem dX2_nackComes_110 : decode cX2_nackComes 110 = .ok (.invokestatic 475, 3) := dk_184 1 219 (dk_at dksX2_nackComes_4 14 rfl rfl)
theorem dX2_nackComes_113 : decode cX2_nackComes 113 = .ok (.ifCond .eq 9, 3) := dk_153 0 9 (dk_at dksX2_nackComes_4 17 rfl rfl)
theorem dX2_nackComes_116 : decode cX2_nackComes 116 = .ok (.aload_n 0, 1) := dk_42 (dk_at dksX2_nackComes_4 20 rfl rfl)
theorem dX2_nackComes_117 : decode cX2_nackComes 117 = .ok (.iload 6, 2) := dk_21 6 (dk_at dksX2_nackComes_4 21 rfl rfl)
theorem dX2_nackComes_119 : decode cX2_nackComes 119 = .ok (.invokevirtual 430, 3) := dk_182 1 174 (dk_at dksX2_nackComes_5 0 rfl rfl)
theorem dX2_nackComes_122 : decode cX2_nackComes 122 = .ok (.iinc 6 1, 3) := dk_132 6 1 (dk_at dksX2_nackComes_5 3 rfl rfl)
theorem dX2_nackComes_125 : decode cX2_nackComes 125 = .ok (.goto (-31), 3) := dk_167 255 225 (dk_at dksX2_nackComes_5 6 rfl rfl)
theorem dX2_nackComes_128 : decode cX2_nackComes 128 = .ok (.aload_n 0, 1) := dk_42 (dk_at dksX2_nackComes_5 9 rfl rfl)
theorem dX2_nackComes_129 : decode cX2_nackComes 129 = .ok (.getfield 44, 3) := dk_180 0 44 (dk_at dksX2_nackComes_5 10 rfl rfl)
theorem dX2_nackComes_132 : decode cX2_nackComes 132 = .ok (.iload_n 1, 1) := dk_27 (dk_at dksX2_nackComes_5 13 rfl rfl)
theorem dX2_nackComes_133 : decode cX2_nackComes 133 = .ok (.dup2, 1) := dk_92 (dk_at dksX2_nackComes_5 14 rfl rfl)
theorem dX2_nackComes_134 : decode cX2_nackComes 134 = .ok (.laload, 1) := dk_47 (dk_at dksX2_nackComes_5 15 rfl rfl)
theorem dX2_nackComes_135 : decode cX2_nackComes 135 = .ok (.aload_n 0, 1) := dk_42 (dk_at dksX2_nackComes_5 16 rfl rfl)
theorem dX2_nackComes_136 : decode cX2_nackComes 136 = .ok (.getfield 78, 3) := dk_180 0 78 (dk_at dksX2_nackComes_5 17 rfl rfl)
theorem dX2_nackComes_139 : decode cX2_nackComes 139 = .ok (.iload 5, 2) := dk_21 5 (dk_at dksX2_nackComes_5 20 rfl rfl)
theorem dX2_nackComes_141 : decode cX2_nackComes 141 = .ok (.laload, 1) := dk_47 (dk_at dksX2_nackComes_5 22 rfl rfl)
theorem dX2_nackComes_142 : decode cX2_nackComes 142 = .ok (.lor, 1) := dk_129 (dk_at dksX2_nackComes_5 23 rfl rfl)
theorem dX2_nackComes_143 : decode cX2_nackComes 143 = .ok (.lastore, 1) := dk_80 (dk_at dksX2_nackComes_6 0 rfl rfl)
theorem dX2_nackComes_144 : decode cX2_nackComes 144 = .ok (.aload_n 0, 1) := dk_42 (dk_at dksX2_nackComes_6 1 rfl rfl)
theorem dX2_nackComes_145 : decode cX2_nackComes 145 = .ok (.iload_n 1, 1) := dk_27 (dk_at dksX2_nackComes_6 2 rfl rfl)
theorem dX2_nackComes_146 : decode cX2_nackComes 146 = .ok (.iload 5, 2) := dk_21 5 (dk_at dksX2_nackComes_6 3 rfl rfl)
theorem dX2_nackComes_148 : decode cX2_nackComes 148 = .ok (.invokevirtual 459, 3) := dk_182 1 203 (dk_at dksX2_nackComes_6 5 rfl rfl)
theorem dX2_nackComes_151 : decode cX2_nackComes 151 = .ok (.return_, 1) := dk_177 (dk_at dksX2_nackComes_6 8 rfl rfl)
abbrev cX2_moves : ByteArray := prog_25_method_81_code
def yX2_moves : MethodName := ⟨RX2, "moves", "(II)V"⟩
def dkwX2_moves_5 : List UInt8 := [42, 180, 0, 126, 28, 42, 180, 0, 126, 27, 46, 79, 177]
abbrev dktX2_moves_5 : List UInt8 := dkwX2_moves_5 ++ []
def dkwX2_moves_4 : List UInt8 := [42, 180, 0, 120, 28, 42, 180, 0, 120, 27, 46, 79, 42, 180, 0, 123, 28, 42, 180, 0, 123, 27, 46, 79]
abbrev dktX2_moves_4 : List UInt8 := dkwX2_moves_4 ++ dktX2_moves_5
def dkwX2_moves_3 : List UInt8 := [42, 180, 0, 114, 28, 42, 180, 0, 114, 27, 46, 79, 42, 180, 0, 117, 28, 42, 180, 0, 117, 27, 46, 79]
abbrev dktX2_moves_3 : List UInt8 := dkwX2_moves_3 ++ dktX2_moves_4
def dkwX2_moves_2 : List UInt8 := [42, 180, 0, 108, 28, 42, 180, 0, 108, 27, 46, 79, 42, 180, 0, 111, 28, 42, 180, 0, 111, 27, 46, 79]
abbrev dktX2_moves_2 : List UInt8 := dkwX2_moves_2 ++ dktX2_moves_3
def dkwX2_moves_1 : List UInt8 := [42, 180, 0, 102, 28, 42, 180, 0, 102, 27, 46, 79, 42, 180, 0, 105, 28, 42, 180, 0, 105, 27, 46, 79]
abbrev dktX2_moves_1 : List UInt8 := dkwX2_moves_1 ++ dktX2_moves_2
def dkwX2_moves_0 : List UInt8 := [42, 180, 0, 96, 28, 42, 180, 0, 96, 27, 46, 79, 42, 180, 0, 99, 28, 42, 180, 0, 99, 27, 46, 79]
abbrev dktX2_moves_0 : List UInt8 := dkwX2_moves_0 ++ dktX2_moves_1
theorem dksX2_moves_0 : cX2_moves.data.toList.drop 0 = dktX2_moves_0 := by decide +kernel
theorem dksX2_moves_1 : cX2_moves.data.toList.drop 24 = dktX2_moves_1 := dk_seg dksX2_moves_0 24 rfl rfl
theorem dksX2_moves_2 : cX2_moves.data.toList.drop 48 = dktX2_moves_2 := dk_seg dksX2_moves_1 24 rfl rfl
theorem dksX2_moves_3 : cX2_moves.data.toList.drop 72 = dktX2_moves_3 := dk_seg dksX2_moves_2 24 rfl rfl
theorem dksX2_moves_4 : cX2_moves.data.toList.drop 96 = dktX2_moves_4 := dk_seg dksX2_moves_3 24 rfl rfl
theorem dksX2_moves_5 : cX2_moves.data.toList.drop 120 = dktX2_moves_5 := dk_seg dksX2_moves_4 24 rfl rfl
theorem dX2_moves_0 : decode cX2_moves 0 = .ok (.aload_n 0, 1) := dk_42 (dk_at dksX2_moves_0 0 rfl rfl)
theorem dX2_moves_1 : decode cX2_moves 1 = .ok (.getfield 96, 3) := dk_180 0 96 (dk_at dksX2_moves_0 1 rfl rfl)
theorem dX2_moves_4 : decode cX2_moves 4 = .ok (.iload_n 2, 1) := dk_28 (dk_at dksX2_moves_0 4 rfl rfl)
theorem dX2_moves_5 : decode cX2_moves 5 = .ok (.aload_n 0, 1) := dk_42 (dk_at dksX2_moves_0 5 rfl rfl)
theorem dX2_moves_6 : decode cX2_moves 6 = .ok (.getfield 96, 3) := dk_180 0 96 (dk_at dksX2_moves_0 6 rfl rfl)
theorem dX2_moves_9 : decode cX2_moves 9 = .ok (.iload_n 1, 1) := dk_27 (dk_at dksX2_moves_0 9 rfl rfl)
theorem dX2_moves_10 : decode cX2_moves 10 = .ok (.iaload, 1) := dk_46 (dk_at dksX2_moves_0 10 rfl rfl)
theorem dX2_moves_11 : decode cX2_moves 11 = .ok (.iastore, 1) := dk_79 (dk_at dksX2_moves_0 11 rfl rfl)
theorem dX2_moves_12 : decode cX2_moves 12 = .ok (.aload_n 0, 1) := dk_42 (dk_at dksX2_moves_0 12 rfl rfl)
theorem dX2_moves_13 : decode cX2_moves 13 = .ok (.getfield 99, 3) := dk_180 0 99 (dk_at dksX2_moves_0 13 rfl rfl)
theorem dX2_moves_16 : decode cX2_moves 16 = .ok (.iload_n 2, 1) := dk_28 (dk_at dksX2_moves_0 16 rfl rfl)
theorem dX2_moves_17 : decode cX2_moves 17 = .ok (.aload_n 0, 1) := dk_42 (dk_at dksX2_moves_0 17 rfl rfl)
theorem dX2_moves_18 : decode cX2_moves 18 = .ok (.getfield 99, 3) := dk_180 0 99 (dk_at dksX2_moves_0 18 rfl rfl)
theorem dX2_moves_21 : decode cX2_moves 21 = .ok (.iload_n 1, 1) := dk_27 (dk_at dksX2_moves_0 21 rfl rfl)
theorem dX2_moves_22 : decode cX2_moves 22 = .ok (.iaload, 1) := dk_46 (dk_at dksX2_moves_0 22 rfl rfl)
theorem dX2_moves_23 : decode cX2_moves 23 = .ok (.iastore, 1) := dk_79 (dk_at dksX2_moves_0 23 rfl rfl)
theorem dX2_moves_24 : decode cX2_moves 24 = .ok (.aload_n 0, 1) := dk_42 (dk_at dksX2_moves_1 0 rfl rfl)
theorem dX2_moves_25 : decode cX2_moves 25 = .ok (.getfield 102, 3) := dk_180 0 102 (dk_at dksX2_moves_1 1 rfl rfl)
theorem dX2_moves_28 : decode cX2_moves 28 = .ok (.iload_n 2, 1) := dk_28 (dk_at dksX2_moves_1 4 rfl rfl)
theorem dX2_moves_29 : decode cX2_moves 29 = .ok (.aload_n 0, 1) := dk_42 (dk_at dksX2_moves_1 5 rfl rfl)
theorem dX2_moves_30 : decode cX2_moves 30 = .ok (.getfield 102, 3) := dk_180 0 102 (dk_at dksX2_moves_1 6 rfl rfl)
theorem dX2_moves_33 : decode cX2_moves 33 = .ok (.iload_n 1, 1) := dk_27 (dk_at dksX2_moves_1 9 rfl rfl)
theorem dX2_moves_34 : decode cX2_moves 34 = .ok (.iaload, 1) := dk_46 (dk_at dksX2_moves_1 10 rfl rfl)
theorem dX2_moves_35 : decode cX2_moves 35 = .ok (.iastore, 1) := dk_79 (dk_at dksX2_moves_1 11 rfl rfl)
theorem dX2_moves_36 : decode cX2_moves 36 = .ok (.aload_n 0, 1) := dk_42 (dk_at dksX2_moves_1 12 rfl rfl)
theorem dX2_moves_37 : decode cX2_moves 37 = .ok (.getfield 105, 3) := dk_180 0 105 (dk_at dksX2_moves_1 13 rfl rfl)
theorem dX2_moves_40 : decode cX2_moves 40 = .ok (.iload_n 2, 1) := dk_28 (dk_at dksX2_moves_1 16 rfl rfl)
theorem dX2_moves_41 : decode cX2_moves 41 = .ok (.aload_n 0, 1) := dk_42 (dk_at dksX2_moves_1 17 rfl rfl)
theorem dX2_moves_42 : decode cX2_moves 42 = .ok (.getfield 105, 3) := dk_180 0 105 (dk_at dksX2_moves_1 18 rfl rfl)
theorem dX2_moves_45 : decode cX2_moves 45 = .ok (.iload_n 1, 1) := dk_27 (dk_at dksX2_moves_1 21 rfl rfl)
theorem dX2_moves_46 : decode cX2_moves 46 = .ok (.iaload, 1) := dk_46 (dk_at dksX2_moves_1 22 rfl rfl)
theorem dX2_moves_47 : decode cX2_moves 47 = .ok (.iastore, 1) := dk_79 (dk_at dksX2_moves_1 23 rfl rfl)
theorem dX2_moves_48 : decode cX2_moves 48 = .ok (.aload_n 0, 1) := dk_42 (dk_at dksX2_moves_2 0 rfl rfl)
theorem dX2_moves_49 : decode cX2_moves 49 = .ok (.getfield 108, 3) := dk_180 0 108 (dk_at dksX2_moves_2 1 rfl rfl)
theorem dX2_moves_52 : decode cX2_moves 52 = .ok (.iload_n 2, 1) := dk_28 (dk_at dksX2_moves_2 4 rfl rfl)
theorem dX2_moves_53 : decode cX2_moves 53 = .ok (.aload_n 0, 1) := dk_42 (dk_at dksX2_moves_2 5 rfl rfl)
theorem dX2_moves_54 : decode cX2_moves 54 = .ok (.getfield 108, 3) := dk_180 0 108 (dk_at dksX2_moves_2 6 rfl rfl)
theorem dX2_moves_57 : decode cX2_moves 57 = .ok (.iload_n 1, 1) := dk_27 (dk_at dksX2_moves_2 9 rfl rfl)
theorem dX2_moves_58 : decode cX2_moves 58 = .ok (.iaload, 1) := dk_46 (dk_at dksX2_moves_2 10 rfl rfl)
theorem dX2_moves_59 : decode cX2_moves 59 = .ok (.iastore, 1) := dk_79 (dk_at dksX2_moves_2 11 rfl rfl)
theorem dX2_moves_60 : decode cX2_moves 60 = .ok (.aload_n 0, 1) := dk_42 (dk_at dksX2_moves_2 12 rfl rfl)
theorem dX2_moves_61 : decode cX2_moves 61 = .ok (.getfield 111, 3) := dk_180 0 111 (dk_at dksX2_moves_2 13 rfl rfl)
theorem dX2_moves_64 : decode cX2_moves 64 = .ok (.iload_n 2, 1) := dk_28 (dk_at dksX2_moves_2 16 rfl rfl)
theorem dX2_moves_65 : decode cX2_moves 65 = .ok (.aload_n 0, 1) := dk_42 (dk_at dksX2_moves_2 17 rfl rfl)
theorem dX2_moves_66 : decode cX2_moves 66 = .ok (.getfield 111, 3) := dk_180 0 111 (dk_at dksX2_moves_2 18 rfl rfl)
theorem dX2_moves_69 : decode cX2_moves 69 = .ok (.iload_n 1, 1) := dk_27 (dk_at dksX2_moves_2 21 rfl rfl)
theorem dX2_moves_70 : decode cX2_moves 70 = .ok (.iaload, 1) := dk_46 (dk_at dksX2_moves_2 22 rfl rfl)
theorem dX2_moves_71 : decode cX2_moves 71 = .ok (.iastore, 1) := dk_79 (dk_at dksX2_moves_2 23 rfl rfl)
theorem dX2_moves_72 : decode cX2_moves 72 = .ok (.aload_n 0, 1) := dk_42 (dk_at dksX2_moves_3 0 rfl rfl)
theorem dX2_moves_73 : decode cX2_moves 73 = .ok (.getfield 114, 3) := dk_180 0 114 (dk_at dksX2_moves_3 1 rfl rfl)
theorem dX2_moves_76 : decode cX2_moves 76 = .ok (.iload_n 2, 1) := dk_28 (dk_at dksX2_moves_3 4 rfl rfl)
theorem dX2_moves_77 : decode cX2_moves 77 = .ok (.aload_n 0, 1) := dk_42 (dk_at dksX2_moves_3 5 rfl rfl)
theorem dX2_moves_78 : decode cX2_moves 78 = .ok (.getfield 114, 3) := dk_180 0 114 (dk_at dksX2_moves_3 6 rfl rfl)
theorem dX2_moves_81 : decode cX2_moves 81 = .ok (.iload_n 1, 1) := dk_27 (dk_at dksX2_moves_3 9 rfl rfl)
theorem dX2_moves_82 : decode cX2_moves 82 = .ok (.iaload, 1) := dk_46 (dk_at dksX2_moves_3 10 rfl rfl)
theorem dX2_moves_83 : decode cX2_moves 83 = .ok (.iastore, 1) := dk_79 (dk_at dksX2_moves_3 11 rfl rfl)
theorem dX2_moves_84 : decode cX2_moves 84 = .ok (.aload_n 0, 1) := dk_42 (dk_at dksX2_moves_3 12 rfl rfl)
theorem dX2_moves_85 : decode cX2_moves 85 = .ok (.getfield 117, 3) := dk_180 0 117 (dk_at dksX2_moves_3 13 rfl rfl)
theorem dX2_moves_88 : decode cX2_moves 88 = .ok (.iload_n 2, 1) := dk_28 (dk_at dksX2_moves_3 16 rfl rfl)
theorem dX2_moves_89 : decode cX2_moves 89 = .ok (.aload_n 0, 1) := dk_42 (dk_at dksX2_moves_3 17 rfl rfl)
theorem dX2_moves_90 : decode cX2_moves 90 = .ok (.getfield 117, 3) := dk_180 0 117 (dk_at dksX2_moves_3 18 rfl rfl)
theorem dX2_moves_93 : decode cX2_moves 93 = .ok (.iload_n 1, 1) := dk_27 (dk_at dksX2_moves_3 21 rfl rfl)
theorem dX2_moves_94 : decode cX2_moves 94 = .ok (.iaload, 1) := dk_46 (dk_at dksX2_moves_3 22 rfl rfl)
theorem dX2_moves_95 : decode cX2_moves 95 = .ok (.iastore, 1) := dk_79 (dk_at dksX2_moves_3 23 rfl rfl)
theorem dX2_moves_96 : decode cX2_moves 96 = .ok (.aload_n 0, 1) := dk_42 (dk_at dksX2_moves_4 0 rfl rfl)
theorem dX2_moves_97 : decode cX2_moves 97 = .ok (.getfield 120, 3) := dk_180 0 120 (dk_at dksX2_moves_4 1 rfl rfl)
theorem dX2_moves_100 : decode cX2_moves 100 = .ok (.iload_n 2, 1) := dk_28 (dk_at dksX2_moves_4 4 rfl rfl)
theorem dX2_moves_101 : decode cX2_moves 101 = .ok (.aload_n 0, 1) := dk_42 (dk_at dksX2_moves_4 5 rfl rfl)
theorem dX2_moves_102 : decode cX2_moves 102 = .ok (.getfield 120, 3) := dk_180 0 120 (dk_at dksX2_moves_4 6 rfl rfl)
theorem dX2_moves_105 : decode cX2_moves 105 = .ok (.iload_n 1, 1) := dk_27 (dk_at dksX2_moves_4 9 rfl rfl)
theorem dX2_moves_106 : decode cX2_moves 106 = .ok (.iaload, 1) := dk_46 (dk_at dksX2_moves_4 10 rfl rfl)
theorem dX2_moves_107 : decode cX2_moves 107 = .ok (.iastore, 1) := dk_79 (dk_at dksX2_moves_4 11 rfl rfl)
theorem dX2_moves_108 : decode cX2_moves 108 = .ok (.aload_n 0, 1) := dk_42 (dk_at dksX2_moves_4 12 rfl rfl)
theorem dX2_moves_109 : decode cX2_moves 109 = .ok (.getfield 123, 3) := dk_180 0 123 (dk_at dksX2_moves_4 13 rfl rfl)
theorem dX2_moves_112 : decode cX2_moves 112 = .ok (.iload_n 2, 1) := dk_28 (dk_at dksX2_moves_4 16 rfl rfl)
theorem dX2_moves_113 : decode cX2_moves 113 = .ok (.aload_n 0, 1) := dk_42 (dk_at dksX2_moves_4 17 rfl rfl)
theorem dX2_moves_114 : decode cX2_moves 114 = .ok (.getfield 123, 3) := dk_180 0 123 (dk_at dksX2_moves_4 18 rfl rfl)
theorem dX2_moves_117 : decode cX2_moves 117 = .ok (.iload_n 1, 1) := dk_27 (dk_at dksX2_moves_4 21 rfl rfl)
theorem dX2_moves_118 : decode cX2_moves 118 = .ok (.iaload, 1) := dk_46 (dk_at dksX2_moves_4 22 rfl rfl)
theorem dX2_moves_119 : decode cX2_moves 119 = .ok (.iastore, 1) := dk_79 (dk_at dksX2_moves_4 23 rfl rfl)
theorem dX2_moves_120 : decode cX2_moves 120 = .ok (.aload_n 0, 1) := dk_42 (dk_at dksX2_moves_5 0 rfl rfl)
theorem dX2_moves_121 : decode cX2_moves 121 = .ok (.getfield 126, 3) := dk_180 0 126 (dk_at dksX2_moves_5 1 rfl rfl)
theorem dX2_moves_124 : decode cX2_moves 124 = .ok (.iload_n 2, 1) := dk_28 (dk_at dksX2_moves_5 4 rfl rfl)
theorem dX2_moves_125 : decode cX2_moves 125 = .ok (.aload_n 0, 1) := dk_42 (dk_at dksX2_moves_5 5 rfl rfl)
theorem dX2_moves_126 : decode cX2_moves 126 = .ok (.getfield 126, 3) := dk_180 0 126 (dk_at dksX2_moves_5 6 rfl rfl)
theorem dX2_moves_129 : decode cX2_moves 129 = .ok (.iload_n 1, 1) := dk_27 (dk_at dksX2_moves_5 9 rfl rfl)
theorem dX2_moves_130 : decode cX2_moves 130 = .ok (.iaload, 1) := dk_46 (dk_at dksX2_moves_5 10 rfl rfl)
theorem dX2_moves_131 : decode cX2_moves 131 = .ok (.iastore, 1) := dk_79 (dk_at dksX2_moves_5 11 rfl rfl)
theorem dX2_moves_132 : decode cX2_moves 132 = .ok (.return_, 1) := dk_177 (dk_at dksX2_moves_5 12 rfl rfl)
abbrev cX2_changes : ByteArray := prog_25_method_85_code
def yX2_changes : MethodName := ⟨RX2, "changes", "(IIZ)Z"⟩
def dkwX2_changes_3 : List UInt8 := [180, 1, 95, 4, 21, 4, 120, 2, 130, 126, 181, 1, 95, 4, 172]
abbrev dktX2_changes_3 : List UInt8 := dkwX2_changes_3 ++ []
def dkwX2_changes_2 : List UInt8 := [29, 160, 0, 5, 3, 172, 42, 29, 153, 0, 15, 42, 180, 1, 95, 4, 21, 4, 120, 128, 167, 0, 14, 42]
abbrev dktX2_changes_2 : List UInt8 := dkwX2_changes_2 ++ dktX2_changes_3
def dkwX2_changes_1 : List UInt8 := [28, 96, 46, 167, 0, 4, 2, 54, 4, 21, 4, 2, 159, 0, 16, 42, 180, 1, 95, 21, 4, 184, 0, 173]
abbrev dktX2_changes_1 : List UInt8 := dkwX2_changes_1 ++ dktX2_changes_2
def dkwX2_changes_0 : List UInt8 := [42, 27, 182, 1, 119, 153, 0, 25, 42, 28, 182, 1, 119, 153, 0, 17, 42, 180, 0, 41, 16, 6, 27, 104]
abbrev dktX2_changes_0 : List UInt8 := dkwX2_changes_0 ++ dktX2_changes_1
theorem dksX2_changes_0 : cX2_changes.data.toList.drop 0 = dktX2_changes_0 := by decide +kernel
theorem dksX2_changes_1 : cX2_changes.data.toList.drop 24 = dktX2_changes_1 := dk_seg dksX2_changes_0 24 rfl rfl
theorem dksX2_changes_2 : cX2_changes.data.toList.drop 48 = dktX2_changes_2 := dk_seg dksX2_changes_1 24 rfl rfl
theorem dksX2_changes_3 : cX2_changes.data.toList.drop 72 = dktX2_changes_3 := dk_seg dksX2_changes_2 24 rfl rfl
theorem dX2_changes_0 : decode cX2_changes 0 = .ok (.aload_n 0, 1) := dk_42 (dk_at dksX2_changes_0 0 rfl rfl)
theorem dX2_changes_1 : decode cX2_changes 1 = .ok (.iload_n 1, 1) := dk_27 (dk_at dksX2_changes_0 1 rfl rfl)
theorem dX2_changes_2 : decode cX2_changes 2 = .ok (.invokevirtual 375, 3) := dk_182 1 119 (dk_at dksX2_changes_0 2 rfl rfl)
theorem dX2_changes_5 : decode cX2_changes 5 = .ok (.ifCond .eq 25, 3) := dk_153 0 25 (dk_at dksX2_changes_0 5 rfl rfl)
theorem dX2_changes_8 : decode cX2_changes 8 = .ok (.aload_n 0, 1) := dk_42 (dk_at dksX2_changes_0 8 rfl rfl)
theorem dX2_changes_9 : decode cX2_changes 9 = .ok (.iload_n 2, 1) := dk_28 (dk_at dksX2_changes_0 9 rfl rfl)
theorem dX2_changes_10 : decode cX2_changes 10 = .ok (.invokevirtual 375, 3) := dk_182 1 119 (dk_at dksX2_changes_0 10 rfl rfl)
theorem dX2_changes_13 : decode cX2_changes 13 = .ok (.ifCond .eq 17, 3) := dk_153 0 17 (dk_at dksX2_changes_0 13 rfl rfl)
theorem dX2_changes_16 : decode cX2_changes 16 = .ok (.aload_n 0, 1) := dk_42 (dk_at dksX2_changes_0 16 rfl rfl)
theorem dX2_changes_17 : decode cX2_changes 17 = .ok (.getfield 41, 3) := dk_180 0 41 (dk_at dksX2_changes_0 17 rfl rfl)
theorem dX2_changes_20 : decode cX2_changes 20 = .ok (.bipush 6, 2) := dk_16 6 (dk_at dksX2_changes_0 20 rfl rfl)
theorem dX2_changes_22 : decode cX2_changes 22 = .ok (.iload_n 1, 1) := dk_27 (dk_at dksX2_changes_0 22 rfl rfl)
theorem dX2_changes_23 : decode cX2_changes 23 = .ok (.imul, 1) := dk_104 (dk_at dksX2_changes_0 23 rfl rfl)
theorem dX2_changes_24 : decode cX2_changes 24 = .ok (.iload_n 2, 1) := dk_28 (dk_at dksX2_changes_1 0 rfl rfl)
theorem dX2_changes_25 : decode cX2_changes 25 = .ok (.iadd, 1) := dk_96 (dk_at dksX2_changes_1 1 rfl rfl)
theorem dX2_changes_26 : decode cX2_changes 26 = .ok (.iaload, 1) := dk_46 (dk_at dksX2_changes_1 2 rfl rfl)
theorem dX2_changes_27 : decode cX2_changes 27 = .ok (.goto 4, 3) := dk_167 0 4 (dk_at dksX2_changes_1 3 rfl rfl)
theorem dX2_changes_30 : decode cX2_changes 30 = .ok (.iconst (-1), 1) := dk_2 (dk_at dksX2_changes_1 6 rfl rfl)
theorem dX2_changes_31 : decode cX2_changes 31 = .ok (.istore 4, 2) := dk_54 4 (dk_at dksX2_changes_1 7 rfl rfl)
theorem dX2_changes_33 : decode cX2_changes 33 = .ok (.iload 4, 2) := dk_21 4 (dk_at dksX2_changes_1 9 rfl rfl)
theorem dX2_changes_35 : decode cX2_changes 35 = .ok (.iconst (-1), 1) := dk_2 (dk_at dksX2_changes_1 11 rfl rfl)
theorem dX2_changes_36 : decode cX2_changes 36 = .ok (.if_icmp .eq 16, 3) := dk_159 0 16 (dk_at dksX2_changes_1 12 rfl rfl)
theorem dX2_changes_39 : decode cX2_changes 39 = .ok (.aload_n 0, 1) := dk_42 (dk_at dksX2_changes_1 15 rfl rfl)
theorem dX2_changes_40 : decode cX2_changes 40 = .ok (.getfield 351, 3) := dk_180 1 95 (dk_at dksX2_changes_1 16 rfl rfl)
theorem dX2_changes_43 : decode cX2_changes 43 = .ok (.iload 4, 2) := dk_21 4 (dk_at dksX2_changes_1 19 rfl rfl)
theorem dX2_changes_45 : decode cX2_changes 45 = .ok (.invokestatic 173, 3) := dk_184 0 173 (dk_at dksX2_changes_1 21 rfl rfl)
theorem dX2_changes_48 : decode cX2_changes 48 = .ok (.iload_n 3, 1) := dk_29 (dk_at dksX2_changes_2 0 rfl rfl)
theorem dX2_changes_49 : decode cX2_changes 49 = .ok (.if_icmp .ne 5, 3) := dk_160 0 5 (dk_at dksX2_changes_2 1 rfl rfl)
theorem dX2_changes_52 : decode cX2_changes 52 = .ok (.iconst 0, 1) := dk_3 (dk_at dksX2_changes_2 4 rfl rfl)
theorem dX2_changes_53 : decode cX2_changes 53 = .ok (.ireturn, 1) := dk_172 (dk_at dksX2_changes_2 5 rfl rfl)
theorem dX2_changes_54 : decode cX2_changes 54 = .ok (.aload_n 0, 1) := dk_42 (dk_at dksX2_changes_2 6 rfl rfl)
theorem dX2_changes_55 : decode cX2_changes 55 = .ok (.iload_n 3, 1) := dk_29 (dk_at dksX2_changes_2 7 rfl rfl)
theorem dX2_changes_56 : decode cX2_changes 56 = .ok (.ifCond .eq 15, 3) := dk_153 0 15 (dk_at dksX2_changes_2 8 rfl rfl)
theorem dX2_changes_59 : decode cX2_changes 59 = .ok (.aload_n 0, 1) := dk_42 (dk_at dksX2_changes_2 11 rfl rfl)
theorem dX2_changes_60 : decode cX2_changes 60 = .ok (.getfield 351, 3) := dk_180 1 95 (dk_at dksX2_changes_2 12 rfl rfl)
theorem dX2_changes_63 : decode cX2_changes 63 = .ok (.iconst 1, 1) := dk_4 (dk_at dksX2_changes_2 15 rfl rfl)
theorem dX2_changes_64 : decode cX2_changes 64 = .ok (.iload 4, 2) := dk_21 4 (dk_at dksX2_changes_2 16 rfl rfl)
theorem dX2_changes_66 : decode cX2_changes 66 = .ok (.ishl, 1) := dk_120 (dk_at dksX2_changes_2 18 rfl rfl)
theorem dX2_changes_67 : decode cX2_changes 67 = .ok (.ior, 1) := dk_128 (dk_at dksX2_changes_2 19 rfl rfl)
theorem dX2_changes_68 : decode cX2_changes 68 = .ok (.goto 14, 3) := dk_167 0 14 (dk_at dksX2_changes_2 20 rfl rfl)
theorem dX2_changes_71 : decode cX2_changes 71 = .ok (.aload_n 0, 1) := dk_42 (dk_at dksX2_changes_2 23 rfl rfl)
theorem dX2_changes_72 : decode cX2_changes 72 = .ok (.getfield 351, 3) := dk_180 1 95 (dk_at dksX2_changes_3 0 rfl rfl)
theorem dX2_changes_75 : decode cX2_changes 75 = .ok (.iconst 1, 1) := dk_4 (dk_at dksX2_changes_3 3 rfl rfl)
theorem dX2_changes_76 : decode cX2_changes 76 = .ok (.iload 4, 2) := dk_21 4 (dk_at dksX2_changes_3 4 rfl rfl)
theorem dX2_changes_78 : decode cX2_changes 78 = .ok (.ishl, 1) := dk_120 (dk_at dksX2_changes_3 6 rfl rfl)
theorem dX2_changes_79 : decode cX2_changes 79 = .ok (.iconst (-1), 1) := dk_2 (dk_at dksX2_changes_3 7 rfl rfl)
theorem dX2_changes_80 : decode cX2_changes 80 = .ok (.ixor, 1) := dk_130 (dk_at dksX2_changes_3 8 rfl rfl)
theorem dX2_changes_81 : decode cX2_changes 81 = .ok (.iand, 1) := dk_126 (dk_at dksX2_changes_3 9 rfl rfl)
theorem dX2_changes_82 : decode cX2_changes 82 = .ok (.putfield 351, 3) := dk_181 1 95 (dk_at dksX2_changes_3 10 rfl rfl)
theorem dX2_changes_85 : decode cX2_changes 85 = .ok (.iconst 1, 1) := dk_4 (dk_at dksX2_changes_3 13 rfl rfl)
theorem dX2_changes_86 : decode cX2_changes 86 = .ok (.ireturn, 1) := dk_172 (dk_at dksX2_changes_3 14 rfl rfl)
abbrev cX2_entriesAll : ByteArray := prog_25_method_91_code
def yX2_entriesAll : MethodName := ⟨RX2, "entriesAll", "()I"⟩
def dkwX2_entriesAll_1 : List UInt8 := [167, 255, 236, 27, 172]
abbrev dktX2_entriesAll_1 : List UInt8 := dkwX2_entriesAll_1 ++ []
def dkwX2_entriesAll_0 : List UInt8 := [3, 60, 3, 61, 28, 42, 180, 1, 83, 162, 0, 18, 27, 42, 180, 0, 63, 28, 46, 96, 60, 132, 2, 1]
abbrev dktX2_entriesAll_0 : List UInt8 := dkwX2_entriesAll_0 ++ dktX2_entriesAll_1
theorem dksX2_entriesAll_0 : cX2_entriesAll.data.toList.drop 0 = dktX2_entriesAll_0 := by decide +kernel
theorem dksX2_entriesAll_1 : cX2_entriesAll.data.toList.drop 24 = dktX2_entriesAll_1 := dk_seg dksX2_entriesAll_0 24 rfl rfl
theorem dX2_entriesAll_0 : decode cX2_entriesAll 0 = .ok (.iconst 0, 1) := dk_3 (dk_at dksX2_entriesAll_0 0 rfl rfl)
theorem dX2_entriesAll_1 : decode cX2_entriesAll 1 = .ok (.istore_n 1, 1) := dk_60 (dk_at dksX2_entriesAll_0 1 rfl rfl)
theorem dX2_entriesAll_2 : decode cX2_entriesAll 2 = .ok (.iconst 0, 1) := dk_3 (dk_at dksX2_entriesAll_0 2 rfl rfl)
theorem dX2_entriesAll_3 : decode cX2_entriesAll 3 = .ok (.istore_n 2, 1) := dk_61 (dk_at dksX2_entriesAll_0 3 rfl rfl)
theorem dX2_entriesAll_4 : decode cX2_entriesAll 4 = .ok (.iload_n 2, 1) := dk_28 (dk_at dksX2_entriesAll_0 4 rfl rfl)
theorem dX2_entriesAll_5 : decode cX2_entriesAll 5 = .ok (.aload_n 0, 1) := dk_42 (dk_at dksX2_entriesAll_0 5 rfl rfl)
theorem dX2_entriesAll_6 : decode cX2_entriesAll 6 = .ok (.getfield 339, 3) := dk_180 1 83 (dk_at dksX2_entriesAll_0 6 rfl rfl)
theorem dX2_entriesAll_9 : decode cX2_entriesAll 9 = .ok (.if_icmp .ge 18, 3) := dk_162 0 18 (dk_at dksX2_entriesAll_0 9 rfl rfl)
theorem dX2_entriesAll_12 : decode cX2_entriesAll 12 = .ok (.iload_n 1, 1) := dk_27 (dk_at dksX2_entriesAll_0 12 rfl rfl)
theorem dX2_entriesAll_13 : decode cX2_entriesAll 13 = .ok (.aload_n 0, 1) := dk_42 (dk_at dksX2_entriesAll_0 13 rfl rfl)
theorem dX2_entriesAll_14 : decode cX2_entriesAll 14 = .ok (.getfield 63, 3) := dk_180 0 63 (dk_at dksX2_entriesAll_0 14 rfl rfl)
theorem dX2_entriesAll_17 : decode cX2_entriesAll 17 = .ok (.iload_n 2, 1) := dk_28 (dk_at dksX2_entriesAll_0 17 rfl rfl)
theorem dX2_entriesAll_18 : decode cX2_entriesAll 18 = .ok (.iaload, 1) := dk_46 (dk_at dksX2_entriesAll_0 18 rfl rfl)
theorem dX2_entriesAll_19 : decode cX2_entriesAll 19 = .ok (.iadd, 1) := dk_96 (dk_at dksX2_entriesAll_0 19 rfl rfl)
theorem dX2_entriesAll_20 : decode cX2_entriesAll 20 = .ok (.istore_n 1, 1) := dk_60 (dk_at dksX2_entriesAll_0 20 rfl rfl)
theorem dX2_entriesAll_21 : decode cX2_entriesAll 21 = .ok (.iinc 2 1, 3) := dk_132 2 1 (dk_at dksX2_entriesAll_0 21 rfl rfl)
theorem dX2_entriesAll_24 : decode cX2_entriesAll 24 = .ok (.goto (-20), 3) := dk_167 255 236 (dk_at dksX2_entriesAll_1 0 rfl rfl)
theorem dX2_entriesAll_27 : decode cX2_entriesAll 27 = .ok (.iload_n 1, 1) := dk_27 (dk_at dksX2_entriesAll_1 3 rfl rfl)
theorem dX2_entriesAll_28 : decode cX2_entriesAll 28 = .ok (.ireturn, 1) := dk_172 (dk_at dksX2_entriesAll_1 4 rfl rfl)
abbrev cX2_state : ByteArray := prog_25_method_98_code
def yX2_state : MethodName := ⟨RX2, "state", "(IIII)I"⟩
def dkwX2_state_1 : List UInt8 := [16, 254, 172]
abbrev dktX2_state_1 : List UInt8 := dkwX2_state_1 ++ []
def dkwX2_state_0 : List UInt8 := [42, 3, 181, 0, 169, 42, 27, 28, 29, 182, 2, 52, 153, 0, 12, 42, 21, 4, 182, 2, 55, 167, 0, 5]
abbrev dktX2_state_0 : List UInt8 := dkwX2_state_0 ++ dktX2_state_1
theorem dksX2_state_0 : cX2_state.data.toList.drop 0 = dktX2_state_0 := by decide +kernel
theorem dksX2_state_1 : cX2_state.data.toList.drop 24 = dktX2_state_1 := dk_seg dksX2_state_0 24 rfl rfl
theorem dX2_state_0 : decode cX2_state 0 = .ok (.aload_n 0, 1) := dk_42 (dk_at dksX2_state_0 0 rfl rfl)
theorem dX2_state_1 : decode cX2_state 1 = .ok (.iconst 0, 1) := dk_3 (dk_at dksX2_state_0 1 rfl rfl)
theorem dX2_state_2 : decode cX2_state 2 = .ok (.putfield 169, 3) := dk_181 0 169 (dk_at dksX2_state_0 2 rfl rfl)
theorem dX2_state_5 : decode cX2_state 5 = .ok (.aload_n 0, 1) := dk_42 (dk_at dksX2_state_0 5 rfl rfl)
theorem dX2_state_6 : decode cX2_state 6 = .ok (.iload_n 1, 1) := dk_27 (dk_at dksX2_state_0 6 rfl rfl)
theorem dX2_state_7 : decode cX2_state 7 = .ok (.iload_n 2, 1) := dk_28 (dk_at dksX2_state_0 7 rfl rfl)
theorem dX2_state_8 : decode cX2_state 8 = .ok (.iload_n 3, 1) := dk_29 (dk_at dksX2_state_0 8 rfl rfl)
theorem dX2_state_9 : decode cX2_state 9 = .ok (.invokevirtual 564, 3) := dk_182 2 52 (dk_at dksX2_state_0 9 rfl rfl)
theorem dX2_state_12 : decode cX2_state 12 = .ok (.ifCond .eq 12, 3) := dk_153 0 12 (dk_at dksX2_state_0 12 rfl rfl)
theorem dX2_state_15 : decode cX2_state 15 = .ok (.aload_n 0, 1) := dk_42 (dk_at dksX2_state_0 15 rfl rfl)
theorem dX2_state_16 : decode cX2_state 16 = .ok (.iload 4, 2) := dk_21 4 (dk_at dksX2_state_0 16 rfl rfl)
theorem dX2_state_18 : decode cX2_state 18 = .ok (.invokevirtual 567, 3) := dk_182 2 55 (dk_at dksX2_state_0 18 rfl rfl)
theorem dX2_state_21 : decode cX2_state 21 = .ok (.goto 5, 3) := dk_167 0 5 (dk_at dksX2_state_0 21 rfl rfl)
theorem dX2_state_24 : decode cX2_state 24 = .ok (.bipush (-2), 2) := dk_16 254 (dk_at dksX2_state_1 0 rfl rfl)
theorem dX2_state_26 : decode cX2_state 26 = .ok (.ireturn, 1) := dk_172 (dk_at dksX2_state_1 2 rfl rfl)
abbrev cX2_layState : ByteArray := prog_25_method_95_code
def yX2_layState : MethodName := ⟨RX2, "layState", "(III)Z"⟩
def dkwX2_layState_1 : List UInt8 := [182, 2, 43, 29, 160, 0, 7, 4, 167, 0, 4, 3, 172]
abbrev dktX2_layState_1 : List UInt8 := dkwX2_layState_1 ++ []
def dkwX2_layState_0 : List UInt8 := [42, 27, 28, 182, 2, 40, 153, 0, 28, 29, 3, 42, 182, 2, 22, 184, 0, 181, 153, 0, 16, 42, 29]
abbrev dktX2_layState_0 : List UInt8 := dkwX2_layState_0 ++ dktX2_layState_1
theorem dksX2_layState_0 : cX2_layState.data.toList.drop 0 = dktX2_layState_0 := by decide +kernel
theorem dksX2_layState_1 : cX2_layState.data.toList.drop 23 = dktX2_layState_1 := dk_seg dksX2_layState_0 23 rfl rfl
theorem dX2_layState_0 : decode cX2_layState 0 = .ok (.aload_n 0, 1) := dk_42 (dk_at dksX2_layState_0 0 rfl rfl)
theorem dX2_layState_1 : decode cX2_layState 1 = .ok (.iload_n 1, 1) := dk_27 (dk_at dksX2_layState_0 1 rfl rfl)
theorem dX2_layState_2 : decode cX2_layState 2 = .ok (.iload_n 2, 1) := dk_28 (dk_at dksX2_layState_0 2 rfl rfl)
theorem dX2_layState_3 : decode cX2_layState 3 = .ok (.invokevirtual 552, 3) := dk_182 2 40 (dk_at dksX2_layState_0 3 rfl rfl)
theorem dX2_layState_6 : decode cX2_layState 6 = .ok (.ifCond .eq 28, 3) := dk_153 0 28 (dk_at dksX2_layState_0 6 rfl rfl)
theorem dX2_layState_9 : decode cX2_layState 9 = .ok (.iload_n 3, 1) := dk_29 (dk_at dksX2_layState_0 9 rfl rfl)
theorem dX2_layState_10 : decode cX2_layState 10 = .ok (.iconst 0, 1) := dk_3 (dk_at dksX2_layState_0 10 rfl rfl)
theorem dX2_layState_11 : decode cX2_layState 11 = .ok (.aload_n 0, 1) := dk_42 (dk_at dksX2_layState_0 11 rfl rfl)
theorem dX2_layState_12 : decode cX2_layState 12 = .ok (.invokevirtual 534, 3) := dk_182 2 22 (dk_at dksX2_layState_0 12 rfl rfl)
theorem dX2_layState_15 : decode cX2_layState 15 = .ok (.invokestatic 181, 3) := dk_184 0 181 (dk_at dksX2_layState_0 15 rfl rfl)
theorem dX2_layState_18 : decode cX2_layState 18 = .ok (.ifCond .eq 16, 3) := dk_153 0 16 (dk_at dksX2_layState_0 18 rfl rfl)
theorem dX2_layState_21 : decode cX2_layState 21 = .ok (.aload_n 0, 1) := dk_42 (dk_at dksX2_layState_0 21 rfl rfl)
theorem dX2_layState_22 : decode cX2_layState 22 = .ok (.iload_n 3, 1) := dk_29 (dk_at dksX2_layState_0 22 rfl rfl)
theorem dX2_layState_23 : decode cX2_layState 23 = .ok (.invokevirtual 555, 3) := dk_182 2 43 (dk_at dksX2_layState_1 0 rfl rfl)
theorem dX2_layState_26 : decode cX2_layState 26 = .ok (.iload_n 3, 1) := dk_29 (dk_at dksX2_layState_1 3 rfl rfl)
theorem dX2_layState_27 : decode cX2_layState 27 = .ok (.if_icmp .ne 7, 3) := dk_160 0 7 (dk_at dksX2_layState_1 4 rfl rfl)
theorem dX2_layState_30 : decode cX2_layState 30 = .ok (.iconst 1, 1) := dk_4 (dk_at dksX2_layState_1 7 rfl rfl)
theorem dX2_layState_31 : decode cX2_layState 31 = .ok (.goto 4, 3) := dk_167 0 4 (dk_at dksX2_layState_1 8 rfl rfl)
theorem dX2_layState_34 : decode cX2_layState 34 = .ok (.iconst 0, 1) := dk_3 (dk_at dksX2_layState_1 11 rfl rfl)
theorem dX2_layState_35 : decode cX2_layState 35 = .ok (.ireturn, 1) := dk_172 (dk_at dksX2_layState_1 12 rfl rfl)
abbrev cX2_ofState : ByteArray := prog_25_method_97_code
def yX2_ofState : MethodName := ⟨RX2, "ofState", "(I)I"⟩
def dkwX2_ofState_8 : List UInt8 := [180, 0, 44, 28, 47, 184, 2, 49, 167, 0, 5, 16, 254, 172, 16, 254, 172]
abbrev dktX2_ofState_8 : List UInt8 := dkwX2_ofState_8 ++ []
def dkwX2_ofState_7 : List UInt8 := [153, 0, 12, 42, 180, 0, 51, 28, 46, 167, 0, 5, 16, 254, 172, 42, 28, 182, 1, 119, 153, 0, 15, 42]
abbrev dktX2_ofState_7 : List UInt8 := dkwX2_ofState_7 ++ dktX2_ofState_8
def dkwX2_ofState_6 : List UInt8 := [28, 182, 1, 119, 153, 0, 12, 42, 180, 0, 63, 28, 46, 167, 0, 5, 16, 254, 172, 42, 28, 182, 1, 119]
abbrev dktX2_ofState_6 : List UInt8 := dkwX2_ofState_6 ++ dktX2_ofState_7
def dkwX2_ofState_5 : List UInt8 := [42, 180, 1, 128, 172, 42, 180, 1, 131, 172, 42, 182, 2, 34, 172, 42, 180, 1, 95, 184, 2, 46, 172, 42]
abbrev dktX2_ofState_5 : List UInt8 := dkwX2_ofState_5 ++ dktX2_ofState_6
def dkwX2_ofState_4 : List UInt8 := [171, 0, 0, 0, 0, 152, 0, 0, 0, 7, 0, 0, 0, 0, 0, 0, 0, 66, 0, 0, 0, 1, 0, 0, 0, 71, 0, 0, 0, 2, 0, 0, 0, 76, 0, 0, 0, 3, 0, 0, 0, 81, 0, 0, 0, 10, 0, 0, 0, 89, 0, 0, 0, 20, 0, 0, 0, 109, 0, 0, 0, 30, 0, 0, 0, 129]
abbrev dktX2_ofState_4 : List UInt8 := dkwX2_ofState_4 ++ dktX2_ofState_5
def dkwX2_ofState_3 : List UInt8 := [16, 10, 108, 104]
abbrev dktX2_ofState_3 : List UInt8 := dkwX2_ofState_3 ++ dktX2_ofState_4
def dkwX2_ofState_2 : List UInt8 := [167, 0, 5, 16, 254, 172, 27, 16, 10, 112, 61, 27, 16, 10, 162, 0, 7, 27, 167, 0, 10, 16, 10, 27]
abbrev dktX2_ofState_2 : List UInt8 := dkwX2_ofState_2 ++ dktX2_ofState_3
def dkwX2_ofState_1 : List UInt8 := [153, 0, 25, 42, 29, 182, 1, 119, 153, 0, 17, 42, 180, 0, 48, 16, 6, 28, 104, 29, 96, 46]
abbrev dktX2_ofState_1 : List UInt8 := dkwX2_ofState_1 ++ dktX2_ofState_2
def dkwX2_ofState_0 : List UInt8 := [27, 16, 100, 161, 0, 49, 27, 16, 100, 100, 16, 10, 108, 61, 27, 16, 10, 112, 62, 42, 28, 182, 1, 119]
abbrev dktX2_ofState_0 : List UInt8 := dkwX2_ofState_0 ++ dktX2_ofState_1
theorem dksX2_ofState_0 : cX2_ofState.data.toList.drop 0 = dktX2_ofState_0 := by decide +kernel
theorem dksX2_ofState_1 : cX2_ofState.data.toList.drop 24 = dktX2_ofState_1 := dk_seg dksX2_ofState_0 24 rfl rfl
theorem dksX2_ofState_2 : cX2_ofState.data.toList.drop 46 = dktX2_ofState_2 := dk_seg dksX2_ofState_1 22 rfl rfl
theorem dksX2_ofState_3 : cX2_ofState.data.toList.drop 70 = dktX2_ofState_3 := dk_seg dksX2_ofState_2 24 rfl rfl
theorem dksX2_ofState_4 : cX2_ofState.data.toList.drop 74 = dktX2_ofState_4 := dk_seg dksX2_ofState_3 4 rfl rfl
theorem dksX2_ofState_5 : cX2_ofState.data.toList.drop 140 = dktX2_ofState_5 := dk_seg dksX2_ofState_4 66 rfl rfl
theorem dksX2_ofState_6 : cX2_ofState.data.toList.drop 164 = dktX2_ofState_6 := dk_seg dksX2_ofState_5 24 rfl rfl
theorem dksX2_ofState_7 : cX2_ofState.data.toList.drop 188 = dktX2_ofState_7 := dk_seg dksX2_ofState_6 24 rfl rfl
theorem dksX2_ofState_8 : cX2_ofState.data.toList.drop 212 = dktX2_ofState_8 := dk_seg dksX2_ofState_7 24 rfl rfl
theorem dX2_ofState_0 : decode cX2_ofState 0 = .ok (.iload_n 1, 1) := dk_27 (dk_at dksX2_ofState_0 0 rfl rfl)
theorem dX2_ofState_1 : decode cX2_ofState 1 = .ok (.bipush 100, 2) := dk_16 100 (dk_at dksX2_ofState_0 1 rfl rfl)
theorem dX2_ofState_3 : decode cX2_ofState 3 = .ok (.if_icmp .lt 49, 3) := dk_161 0 49 (dk_at dksX2_ofState_0 3 rfl rfl)
theorem dX2_ofState_6 : decode cX2_ofState 6 = .ok (.iload_n 1, 1) := dk_27 (dk_at dksX2_ofState_0 6 rfl rfl)
theorem dX2_ofState_7 : decode cX2_ofState 7 = .ok (.bipush 100, 2) := dk_16 100 (dk_at dksX2_ofState_0 7 rfl rfl)
theorem dX2_ofState_9 : decode cX2_ofState 9 = .ok (.isub, 1) := dk_100 (dk_at dksX2_ofState_0 9 rfl rfl)
theorem dX2_ofState_10 : decode cX2_ofState 10 = .ok (.bipush 10, 2) := dk_16 10 (dk_at dksX2_ofState_0 10 rfl rfl)
theorem dX2_ofState_12 : decode cX2_ofState 12 = .ok (.idiv, 1) := dk_108 (dk_at dksX2_ofState_0 12 rfl rfl)
theorem dX2_ofState_13 : decode cX2_ofState 13 = .ok (.istore_n 2, 1) := dk_61 (dk_at dksX2_ofState_0 13 rfl rfl)
theorem dX2_ofState_14 : decode cX2_ofState 14 = .ok (.iload_n 1, 1) := dk_27 (dk_at dksX2_ofState_0 14 rfl rfl)
theorem dX2_ofState_15 : decode cX2_ofState 15 = .ok (.bipush 10, 2) := dk_16 10 (dk_at dksX2_ofState_0 15 rfl rfl)
theorem dX2_ofState_17 : decode cX2_ofState 17 = .ok (.irem, 1) := dk_112 (dk_at dksX2_ofState_0 17 rfl rfl)
theorem dX2_ofState_18 : decode cX2_ofState 18 = .ok (.istore_n 3, 1) := dk_62 (dk_at dksX2_ofState_0 18 rfl rfl)
theorem dX2_ofState_19 : decode cX2_ofState 19 = .ok (.aload_n 0, 1) := dk_42 (dk_at dksX2_ofState_0 19 rfl rfl)
theorem dX2_ofState_20 : decode cX2_ofState 20 = .ok (.iload_n 2, 1) := dk_28 (dk_at dksX2_ofState_0 20 rfl rfl)
theorem dX2_ofState_21 : decode cX2_ofState 21 = .ok (.invokevirtual 375, 3) := dk_182 1 119 (dk_at dksX2_ofState_0 21 rfl rfl)
theorem dX2_ofState_24 : decode cX2_ofState 24 = .ok (.ifCond .eq 25, 3) := dk_153 0 25 (dk_at dksX2_ofState_1 0 rfl rfl)
theorem dX2_ofState_27 : decode cX2_ofState 27 = .ok (.aload_n 0, 1) := dk_42 (dk_at dksX2_ofState_1 3 rfl rfl)
theorem dX2_ofState_28 : decode cX2_ofState 28 = .ok (.iload_n 3, 1) := dk_29 (dk_at dksX2_ofState_1 4 rfl rfl)
theorem dX2_ofState_29 : decode cX2_ofState 29 = .ok (.invokevirtual 375, 3) := dk_182 1 119 (dk_at dksX2_ofState_1 5 rfl rfl)
theorem dX2_ofState_32 : decode cX2_ofState 32 = .ok (.ifCond .eq 17, 3) := dk_153 0 17 (dk_at dksX2_ofState_1 8 rfl rfl)
theorem dX2_ofState_35 : decode cX2_ofState 35 = .ok (.aload_n 0, 1) := dk_42 (dk_at dksX2_ofState_1 11 rfl rfl)
theorem dX2_ofState_36 : decode cX2_ofState 36 = .ok (.getfield 48, 3) := dk_180 0 48 (dk_at dksX2_ofState_1 12 rfl rfl)
theorem dX2_ofState_39 : decode cX2_ofState 39 = .ok (.bipush 6, 2) := dk_16 6 (dk_at dksX2_ofState_1 15 rfl rfl)
theorem dX2_ofState_41 : decode cX2_ofState 41 = .ok (.iload_n 2, 1) := dk_28 (dk_at dksX2_ofState_1 17 rfl rfl)
theorem dX2_ofState_42 : decode cX2_ofState 42 = .ok (.imul, 1) := dk_104 (dk_at dksX2_ofState_1 18 rfl rfl)
theorem dX2_ofState_43 : decode cX2_ofState 43 = .ok (.iload_n 3, 1) := dk_29 (dk_at dksX2_ofState_1 19 rfl rfl)
theorem dX2_ofState_44 : decode cX2_ofState 44 = .ok (.iadd, 1) := dk_96 (dk_at dksX2_ofState_1 20 rfl rfl)
theorem dX2_ofState_45 : decode cX2_ofState 45 = .ok (.iaload, 1) := dk_46 (dk_at dksX2_ofState_1 21 rfl rfl)
theorem dX2_ofState_46 : decode cX2_ofState 46 = .ok (.goto 5, 3) := dk_167 0 5 (dk_at dksX2_ofState_2 0 rfl rfl)
theorem dX2_ofState_49 : decode cX2_ofState 49 = .ok (.bipush (-2), 2) := dk_16 254 (dk_at dksX2_ofState_2 3 rfl rfl)
theorem dX2_ofState_51 : decode cX2_ofState 51 = .ok (.ireturn, 1) := dk_172 (dk_at dksX2_ofState_2 5 rfl rfl)
theorem dX2_ofState_52 : decode cX2_ofState 52 = .ok (.iload_n 1, 1) := dk_27 (dk_at dksX2_ofState_2 6 rfl rfl)
theorem dX2_ofState_53 : decode cX2_ofState 53 = .ok (.bipush 10, 2) := dk_16 10 (dk_at dksX2_ofState_2 7 rfl rfl)
theorem dX2_ofState_55 : decode cX2_ofState 55 = .ok (.irem, 1) := dk_112 (dk_at dksX2_ofState_2 9 rfl rfl)
theorem dX2_ofState_56 : decode cX2_ofState 56 = .ok (.istore_n 2, 1) := dk_61 (dk_at dksX2_ofState_2 10 rfl rfl)
theorem dX2_ofState_57 : decode cX2_ofState 57 = .ok (.iload_n 1, 1) := dk_27 (dk_at dksX2_ofState_2 11 rfl rfl)
theorem dX2_ofState_58 : decode cX2_ofState 58 = .ok (.bipush 10, 2) := dk_16 10 (dk_at dksX2_ofState_2 12 rfl rfl)
theorem dX2_ofState_60 : decode cX2_ofState 60 = .ok (.if_icmp .ge 7, 3) := dk_162 0 7 (dk_at dksX2_ofState_2 14 rfl rfl)
theorem dX2_ofState_63 : decode cX2_ofState 63 = .ok (.iload_n 1, 1) := dk_27 (dk_at dksX2_ofState_2 17 rfl rfl)
theorem dX2_ofState_64 : decode cX2_ofState 64 = .ok (.goto 10, 3) := dk_167 0 10 (dk_at dksX2_ofState_2 18 rfl rfl)
theorem dX2_ofState_67 : decode cX2_ofState 67 = .ok (.bipush 10, 2) := dk_16 10 (dk_at dksX2_ofState_2 21 rfl rfl)
theorem dX2_ofState_69 : decode cX2_ofState 69 = .ok (.iload_n 1, 1) := dk_27 (dk_at dksX2_ofState_2 23 rfl rfl)
theorem dX2_ofState_70 : decode cX2_ofState 70 = .ok (.bipush 10, 2) := dk_16 10 (dk_at dksX2_ofState_3 0 rfl rfl)
theorem dX2_ofState_72 : decode cX2_ofState 72 = .ok (.idiv, 1) := dk_108 (dk_at dksX2_ofState_3 2 rfl rfl)
theorem dX2_ofState_73 : decode cX2_ofState 73 = .ok (.imul, 1) := dk_104 (dk_at dksX2_ofState_3 3 rfl rfl)
theorem dX2_ofState_74 : decode cX2_ofState 74 = .ok (.lookupswitch 152 #[(0, 66), (1, 71), (2, 76), (3, 81), (10, 89), (20, 109), (30, 129)], 66) := by decide +kernel
theorem dX2_ofState_140 : decode cX2_ofState 140 = .ok (.aload_n 0, 1) := dk_42 (dk_at dksX2_ofState_5 0 rfl rfl)
theorem dX2_ofState_141 : decode cX2_ofState 141 = .ok (.getfield 384, 3) := dk_180 1 128 (dk_at dksX2_ofState_5 1 rfl rfl)
theorem dX2_ofState_144 : decode cX2_ofState 144 = .ok (.ireturn, 1) := dk_172 (dk_at dksX2_ofState_5 4 rfl rfl)
theorem dX2_ofState_145 : decode cX2_ofState 145 = .ok (.aload_n 0, 1) := dk_42 (dk_at dksX2_ofState_5 5 rfl rfl)
theorem dX2_ofState_146 : decode cX2_ofState 146 = .ok (.getfield 387, 3) := dk_180 1 131 (dk_at dksX2_ofState_5 6 rfl rfl)
theorem dX2_ofState_149 : decode cX2_ofState 149 = .ok (.ireturn, 1) := dk_172 (dk_at dksX2_ofState_5 9 rfl rfl)
theorem dX2_ofState_150 : decode cX2_ofState 150 = .ok (.aload_n 0, 1) := dk_42 (dk_at dksX2_ofState_5 10 rfl rfl)
theorem dX2_ofState_151 : decode cX2_ofState 151 = .ok (.invokevirtual 546, 3) := dk_182 2 34 (dk_at dksX2_ofState_5 11 rfl rfl)
theorem dX2_ofState_154 : decode cX2_ofState 154 = .ok (.ireturn, 1) := dk_172 (dk_at dksX2_ofState_5 14 rfl rfl)
theorem dX2_ofState_155 : decode cX2_ofState 155 = .ok (.aload_n 0, 1) := dk_42 (dk_at dksX2_ofState_5 15 rfl rfl)
theorem dX2_ofState_156 : decode cX2_ofState 156 = .ok (.getfield 351, 3) := dk_180 1 95 (dk_at dksX2_ofState_5 16 rfl rfl)
theorem dX2_ofState_159 : decode cX2_ofState 159 = .ok (.invokestatic 558, 3) := dk_184 2 46 (dk_at dksX2_ofState_5 19 rfl rfl)
theorem dX2_ofState_162 : decode cX2_ofState 162 = .ok (.ireturn, 1) := dk_172 (dk_at dksX2_ofState_5 22 rfl rfl)
theorem dX2_ofState_163 : decode cX2_ofState 163 = .ok (.aload_n 0, 1) := dk_42 (dk_at dksX2_ofState_5 23 rfl rfl)
theorem dX2_ofState_164 : decode cX2_ofState 164 = .ok (.iload_n 2, 1) := dk_28 (dk_at dksX2_ofState_6 0 rfl rfl)
theorem dX2_ofState_165 : decode cX2_ofState 165 = .ok (.invokevirtual 375, 3) := dk_182 1 119 (dk_at dksX2_ofState_6 1 rfl rfl)
theorem dX2_ofState_168 : decode cX2_ofState 168 = .ok (.ifCond .eq 12, 3) := dk_153 0 12 (dk_at dksX2_ofState_6 4 rfl rfl)
theorem dX2_ofState_171 : decode cX2_ofState 171 = .ok (.aload_n 0, 1) := dk_42 (dk_at dksX2_ofState_6 7 rfl rfl)
theorem dX2_ofState_172 : decode cX2_ofState 172 = .ok (.getfield 63, 3) := dk_180 0 63 (dk_at dksX2_ofState_6 8 rfl rfl)
theorem dX2_ofState_175 : decode cX2_ofState 175 = .ok (.iload_n 2, 1) := dk_28 (dk_at dksX2_ofState_6 11 rfl rfl)
theorem dX2_ofState_176 : decode cX2_ofState 176 = .ok (.iaload, 1) := dk_46 (dk_at dksX2_ofState_6 12 rfl rfl)
theorem dX2_ofState_177 : decode cX2_ofState 177 = .ok (.goto 5, 3) := dk_167 0 5 (dk_at dksX2_ofState_6 13 rfl rfl)
theorem dX2_ofState_180 : decode cX2_ofState 180 = .ok (.bipush (-2), 2) := dk_16 254 (dk_at dksX2_ofState_6 16 rfl rfl)
theorem dX2_ofState_182 : decode cX2_ofState 182 = .ok (.ireturn, 1) := dk_172 (dk_at dksX2_ofState_6 18 rfl rfl)
theorem dX2_ofState_183 : decode cX2_ofState 183 = .ok (.aload_n 0, 1) := dk_42 (dk_at dksX2_ofState_6 19 rfl rfl)
theorem dX2_ofState_184 : decode cX2_ofState 184 = .ok (.iload_n 2, 1) := dk_28 (dk_at dksX2_ofState_6 20 rfl rfl)
theorem dX2_ofState_185 : decode cX2_ofState 185 = .ok (.invokevirtual 375, 3) := dk_182 1 119 (dk_at dksX2_ofState_6 21 rfl rfl)
theorem dX2_ofState_188 : decode cX2_ofState 188 = .ok (.ifCond .eq 12, 3) := dk_153 0 12 (dk_at dksX2_ofState_7 0 rfl rfl)
theorem dX2_ofState_191 : decode cX2_ofState 191 = .ok (.aload_n 0, 1) := dk_42 (dk_at dksX2_ofState_7 3 rfl rfl)
theorem dX2_ofState_192 : decode cX2_ofState 192 = .ok (.getfield 51, 3) := dk_180 0 51 (dk_at dksX2_ofState_7 4 rfl rfl)
theorem dX2_ofState_195 : decode cX2_ofState 195 = .ok (.iload_n 2, 1) := dk_28 (dk_at dksX2_ofState_7 7 rfl rfl)
theorem dX2_ofState_196 : decode cX2_ofState 196 = .ok (.iaload, 1) := dk_46 (dk_at dksX2_ofState_7 8 rfl rfl)
theorem dX2_ofState_197 : decode cX2_ofState 197 = .ok (.goto 5, 3) := dk_167 0 5 (dk_at dksX2_ofState_7 9 rfl rfl)
theorem dX2_ofState_200 : decode cX2_ofState 200 = .ok (.bipush (-2), 2) := dk_16 254 (dk_at dksX2_ofState_7 12 rfl rfl)
theorem dX2_ofState_202 : decode cX2_ofState 202 = .ok (.ireturn, 1) := dk_172 (dk_at dksX2_ofState_7 14 rfl rfl)
theorem dX2_ofState_203 : decode cX2_ofState 203 = .ok (.aload_n 0, 1) := dk_42 (dk_at dksX2_ofState_7 15 rfl rfl)
theorem dX2_ofState_204 : decode cX2_ofState 204 = .ok (.iload_n 2, 1) := dk_28 (dk_at dksX2_ofState_7 16 rfl rfl)
theorem dX2_ofState_205 : decode cX2_ofState 205 = .ok (.invokevirtual 375, 3) := dk_182 1 119 (dk_at dksX2_ofState_7 17 rfl rfl)
theorem dX2_ofState_208 : decode cX2_ofState 208 = .ok (.ifCond .eq 15, 3) := dk_153 0 15 (dk_at dksX2_ofState_7 20 rfl rfl)
theorem dX2_ofState_211 : decode cX2_ofState 211 = .ok (.aload_n 0, 1) := dk_42 (dk_at dksX2_ofState_7 23 rfl rfl)
theorem dX2_ofState_212 : decode cX2_ofState 212 = .ok (.getfield 44, 3) := dk_180 0 44 (dk_at dksX2_ofState_8 0 rfl rfl)
theorem dX2_ofState_215 : decode cX2_ofState 215 = .ok (.iload_n 2, 1) := dk_28 (dk_at dksX2_ofState_8 3 rfl rfl)
theorem dX2_ofState_216 : decode cX2_ofState 216 = .ok (.laload, 1) := dk_47 (dk_at dksX2_ofState_8 4 rfl rfl)
theorem dX2_ofState_217 : decode cX2_ofState 217 = .ok (.invokestatic 561, 3) := dk_184 2 49 (dk_at dksX2_ofState_8 5 rfl rfl)
theorem dX2_ofState_220 : decode cX2_ofState 220 = .ok (.goto 5, 3) := dk_167 0 5 (dk_at dksX2_ofState_8 8 rfl rfl)
theorem dX2_ofState_223 : decode cX2_ofState 223 = .ok (.bipush (-2), 2) := dk_16 254 (dk_at dksX2_ofState_8 11 rfl rfl)
theorem dX2_ofState_225 : decode cX2_ofState 225 = .ok (.ireturn, 1) := dk_172 (dk_at dksX2_ofState_8 13 rfl rfl)
theorem dX2_ofState_226 : decode cX2_ofState 226 = .ok (.bipush (-2), 2) := dk_16 254 (dk_at dksX2_ofState_8 14 rfl rfl)
theorem dX2_ofState_228 : decode cX2_ofState 228 = .ok (.ireturn, 1) := dk_172 (dk_at dksX2_ofState_8 16 rfl rfl)
abbrev cX2_ones : ByteArray := prog_25_method_7_code
def yX2_ones : MethodName := ⟨RX2, "ones", "(I)I"⟩
def dkwX2_ones_1 : List UInt8 := [96, 60, 132, 2, 1, 167, 255, 231, 27, 172]
abbrev dktX2_ones_1 : List UInt8 := dkwX2_ones_1 ++ []
def dkwX2_ones_0 : List UInt8 := [3, 60, 3, 61, 28, 16, 15, 162, 0, 25, 27, 26, 28, 184, 0, 173, 153, 0, 7, 4, 167, 0, 4, 3]
abbrev dktX2_ones_0 : List UInt8 := dkwX2_ones_0 ++ dktX2_ones_1
theorem dksX2_ones_0 : cX2_ones.data.toList.drop 0 = dktX2_ones_0 := by decide +kernel
theorem dksX2_ones_1 : cX2_ones.data.toList.drop 24 = dktX2_ones_1 := dk_seg dksX2_ones_0 24 rfl rfl
theorem dX2_ones_0 : decode cX2_ones 0 = .ok (.iconst 0, 1) := dk_3 (dk_at dksX2_ones_0 0 rfl rfl)
theorem dX2_ones_1 : decode cX2_ones 1 = .ok (.istore_n 1, 1) := dk_60 (dk_at dksX2_ones_0 1 rfl rfl)
theorem dX2_ones_2 : decode cX2_ones 2 = .ok (.iconst 0, 1) := dk_3 (dk_at dksX2_ones_0 2 rfl rfl)
theorem dX2_ones_3 : decode cX2_ones 3 = .ok (.istore_n 2, 1) := dk_61 (dk_at dksX2_ones_0 3 rfl rfl)
theorem dX2_ones_4 : decode cX2_ones 4 = .ok (.iload_n 2, 1) := dk_28 (dk_at dksX2_ones_0 4 rfl rfl)
theorem dX2_ones_5 : decode cX2_ones 5 = .ok (.bipush 15, 2) := dk_16 15 (dk_at dksX2_ones_0 5 rfl rfl)
theorem dX2_ones_7 : decode cX2_ones 7 = .ok (.if_icmp .ge 25, 3) := dk_162 0 25 (dk_at dksX2_ones_0 7 rfl rfl)
theorem dX2_ones_10 : decode cX2_ones 10 = .ok (.iload_n 1, 1) := dk_27 (dk_at dksX2_ones_0 10 rfl rfl)
theorem dX2_ones_11 : decode cX2_ones 11 = .ok (.iload_n 0, 1) := dk_26 (dk_at dksX2_ones_0 11 rfl rfl)
theorem dX2_ones_12 : decode cX2_ones 12 = .ok (.iload_n 2, 1) := dk_28 (dk_at dksX2_ones_0 12 rfl rfl)
theorem dX2_ones_13 : decode cX2_ones 13 = .ok (.invokestatic 173, 3) := dk_184 0 173 (dk_at dksX2_ones_0 13 rfl rfl)
theorem dX2_ones_16 : decode cX2_ones 16 = .ok (.ifCond .eq 7, 3) := dk_153 0 7 (dk_at dksX2_ones_0 16 rfl rfl)
theorem dX2_ones_19 : decode cX2_ones 19 = .ok (.iconst 1, 1) := dk_4 (dk_at dksX2_ones_0 19 rfl rfl)
theorem dX2_ones_20 : decode cX2_ones 20 = .ok (.goto 4, 3) := dk_167 0 4 (dk_at dksX2_ones_0 20 rfl rfl)
theorem dX2_ones_23 : decode cX2_ones 23 = .ok (.iconst 0, 1) := dk_3 (dk_at dksX2_ones_0 23 rfl rfl)
theorem dX2_ones_24 : decode cX2_ones 24 = .ok (.iadd, 1) := dk_96 (dk_at dksX2_ones_1 0 rfl rfl)
theorem dX2_ones_25 : decode cX2_ones 25 = .ok (.istore_n 1, 1) := dk_60 (dk_at dksX2_ones_1 1 rfl rfl)
theorem dX2_ones_26 : decode cX2_ones 26 = .ok (.iinc 2 1, 3) := dk_132 2 1 (dk_at dksX2_ones_1 2 rfl rfl)
theorem dX2_ones_29 : decode cX2_ones 29 = .ok (.goto (-25), 3) := dk_167 255 231 (dk_at dksX2_ones_1 5 rfl rfl)
theorem dX2_ones_32 : decode cX2_ones 32 = .ok (.iload_n 1, 1) := dk_27 (dk_at dksX2_ones_1 8 rfl rfl)
theorem dX2_ones_33 : decode cX2_ones 33 = .ok (.ireturn, 1) := dk_172 (dk_at dksX2_ones_1 9 rfl rfl)
abbrev cX2_onesL : ByteArray := prog_25_method_96_code
def yX2_onesL : MethodName := ⟨RX2, "onesL", "(J)I"⟩
def dkwX2_onesL_1 : List UInt8 := [96, 61, 132, 3, 1, 167, 255, 231, 28, 172]
abbrev dktX2_onesL_1 : List UInt8 := dkwX2_onesL_1 ++ []
def dkwX2_onesL_0 : List UInt8 := [3, 61, 3, 62, 29, 16, 64, 162, 0, 25, 28, 30, 29, 184, 1, 219, 153, 0, 7, 4, 167, 0, 4, 3]
abbrev dktX2_onesL_0 : List UInt8 := dkwX2_onesL_0 ++ dktX2_onesL_1
theorem dksX2_onesL_0 : cX2_onesL.data.toList.drop 0 = dktX2_onesL_0 := by decide +kernel
theorem dksX2_onesL_1 : cX2_onesL.data.toList.drop 24 = dktX2_onesL_1 := dk_seg dksX2_onesL_0 24 rfl rfl
theorem dX2_onesL_0 : decode cX2_onesL 0 = .ok (.iconst 0, 1) := dk_3 (dk_at dksX2_onesL_0 0 rfl rfl)
theorem dX2_onesL_1 : decode cX2_onesL 1 = .ok (.istore_n 2, 1) := dk_61 (dk_at dksX2_onesL_0 1 rfl rfl)
theorem dX2_onesL_2 : decode cX2_onesL 2 = .ok (.iconst 0, 1) := dk_3 (dk_at dksX2_onesL_0 2 rfl rfl)
theorem dX2_onesL_3 : decode cX2_onesL 3 = .ok (.istore_n 3, 1) := dk_62 (dk_at dksX2_onesL_0 3 rfl rfl)
theorem dX2_onesL_4 : decode cX2_onesL 4 = .ok (.iload_n 3, 1) := dk_29 (dk_at dksX2_onesL_0 4 rfl rfl)
theorem dX2_onesL_5 : decode cX2_onesL 5 = .ok (.bipush 64, 2) := dk_16 64 (dk_at dksX2_onesL_0 5 rfl rfl)
theorem dX2_onesL_7 : decode cX2_onesL 7 = .ok (.if_icmp .ge 25, 3) := dk_162 0 25 (dk_at dksX2_onesL_0 7 rfl rfl)
theorem dX2_onesL_10 : decode cX2_onesL 10 = .ok (.iload_n 2, 1) := dk_28 (dk_at dksX2_onesL_0 10 rfl rfl)
theorem dX2_onesL_11 : decode cX2_onesL 11 = .ok (.lload_n 0, 1) := dk_30 (dk_at dksX2_onesL_0 11 rfl rfl)
theorem dX2_onesL_12 : decode cX2_onesL 12 = .ok (.iload_n 3, 1) := dk_29 (dk_at dksX2_onesL_0 12 rfl rfl)
theorem dX2_onesL_13 : decode cX2_onesL 13 = .ok (.invokestatic 475, 3) := dk_184 1 219 (dk_at dksX2_onesL_0 13 rfl rfl)
theorem dX2_onesL_16 : decode cX2_onesL 16 = .ok (.ifCond .eq 7, 3) := dk_153 0 7 (dk_at dksX2_onesL_0 16 rfl rfl)
theorem dX2_onesL_19 : decode cX2_onesL 19 = .ok (.iconst 1, 1) := dk_4 (dk_at dksX2_onesL_0 19 rfl rfl)
theorem dX2_onesL_20 : decode cX2_onesL 20 = .ok (.goto 4, 3) := dk_167 0 4 (dk_at dksX2_onesL_0 20 rfl rfl)
theorem dX2_onesL_23 : decode cX2_onesL 23 = .ok (.iconst 0, 1) := dk_3 (dk_at dksX2_onesL_0 23 rfl rfl)
theorem dX2_onesL_24 : decode cX2_onesL 24 = .ok (.iadd, 1) := dk_96 (dk_at dksX2_onesL_1 0 rfl rfl)
theorem dX2_onesL_25 : decode cX2_onesL 25 = .ok (.istore_n 2, 1) := dk_61 (dk_at dksX2_onesL_1 1 rfl rfl)
theorem dX2_onesL_26 : decode cX2_onesL 26 = .ok (.iinc 3 1, 3) := dk_132 3 1 (dk_at dksX2_onesL_1 2 rfl rfl)
theorem dX2_onesL_29 : decode cX2_onesL 29 = .ok (.goto (-25), 3) := dk_167 255 231 (dk_at dksX2_onesL_1 5 rfl rfl)
theorem dX2_onesL_32 : decode cX2_onesL 32 = .ok (.iload_n 2, 1) := dk_28 (dk_at dksX2_onesL_1 8 rfl rfl)
theorem dX2_onesL_33 : decode cX2_onesL 33 = .ok (.ireturn, 1) := dk_172 (dk_at dksX2_onesL_1 9 rfl rfl)
abbrev cX2_stored : ByteArray := prog_25_method_99_code
def yX2_stored : MethodName := ⟨RX2, "stored", "(IIIIII)I"⟩
def dkwX2_stored_4 : List UInt8 := [21, 7, 46, 167, 0, 4, 2, 172]
abbrev dktX2_stored_4 : List UInt8 := dkwX2_stored_4 ++ []
def dkwX2_stored_3 : List UInt8 := [160, 0, 13, 42, 180, 0, 57, 21, 7, 46, 167, 0, 20, 21, 6, 5, 160, 0, 13, 42, 180, 0, 60]
abbrev dktX2_stored_3 : List UInt8 := dkwX2_stored_3 ++ dktX2_stored_4
def dkwX2_stored_2 : List UInt8 := [104, 21, 5, 96, 54, 7, 21, 6, 154, 0, 13, 42, 180, 0, 54, 21, 7, 46, 167, 0, 36, 21, 6, 4]
abbrev dktX2_stored_2 : List UInt8 := dkwX2_stored_2 ++ dktX2_stored_3
def dkwX2_stored_1 : List UInt8 := [21, 5, 3, 42, 180, 0, 51, 21, 4, 46, 4, 100, 184, 0, 181, 154, 0, 5, 2, 172, 16, 6, 21, 4]
abbrev dktX2_stored_1 : List UInt8 := dkwX2_stored_1 ++ dktX2_stored_2
def dkwX2_stored_0 : List UInt8 := [42, 3, 181, 0, 169, 42, 27, 28, 29, 182, 2, 52, 153, 0, 30, 42, 21, 4, 182, 1, 119, 153, 0, 21]
abbrev dktX2_stored_0 : List UInt8 := dkwX2_stored_0 ++ dktX2_stored_1
theorem dksX2_stored_0 : cX2_stored.data.toList.drop 0 = dktX2_stored_0 := by decide +kernel
theorem dksX2_stored_1 : cX2_stored.data.toList.drop 24 = dktX2_stored_1 := dk_seg dksX2_stored_0 24 rfl rfl
theorem dksX2_stored_2 : cX2_stored.data.toList.drop 48 = dktX2_stored_2 := dk_seg dksX2_stored_1 24 rfl rfl
theorem dksX2_stored_3 : cX2_stored.data.toList.drop 72 = dktX2_stored_3 := dk_seg dksX2_stored_2 24 rfl rfl
theorem dksX2_stored_4 : cX2_stored.data.toList.drop 95 = dktX2_stored_4 := dk_seg dksX2_stored_3 23 rfl rfl
theorem dX2_stored_0 : decode cX2_stored 0 = .ok (.aload_n 0, 1) := dk_42 (dk_at dksX2_stored_0 0 rfl rfl)
theorem dX2_stored_1 : decode cX2_stored 1 = .ok (.iconst 0, 1) := dk_3 (dk_at dksX2_stored_0 1 rfl rfl)
theorem dX2_stored_2 : decode cX2_stored 2 = .ok (.putfield 169, 3) := dk_181 0 169 (dk_at dksX2_stored_0 2 rfl rfl)
theorem dX2_stored_5 : decode cX2_stored 5 = .ok (.aload_n 0, 1) := dk_42 (dk_at dksX2_stored_0 5 rfl rfl)
theorem dX2_stored_6 : decode cX2_stored 6 = .ok (.iload_n 1, 1) := dk_27 (dk_at dksX2_stored_0 6 rfl rfl)
theorem dX2_stored_7 : decode cX2_stored 7 = .ok (.iload_n 2, 1) := dk_28 (dk_at dksX2_stored_0 7 rfl rfl)
theorem dX2_stored_8 : decode cX2_stored 8 = .ok (.iload_n 3, 1) := dk_29 (dk_at dksX2_stored_0 8 rfl rfl)
theorem dX2_stored_9 : decode cX2_stored 9 = .ok (.invokevirtual 564, 3) := dk_182 2 52 (dk_at dksX2_stored_0 9 rfl rfl)
theorem dX2_stored_12 : decode cX2_stored 12 = .ok (.ifCond .eq 30, 3) := dk_153 0 30 (dk_at dksX2_stored_0 12 rfl rfl)
theorem dX2_stored_15 : decode cX2_stored 15 = .ok (.aload_n 0, 1) := dk_42 (dk_at dksX2_stored_0 15 rfl rfl)
theorem dX2_stored_16 : decode cX2_stored 16 = .ok (.iload 4, 2) := dk_21 4 (dk_at dksX2_stored_0 16 rfl rfl)
theorem dX2_stored_18 : decode cX2_stored 18 = .ok (.invokevirtual 375, 3) := dk_182 1 119 (dk_at dksX2_stored_0 18 rfl rfl)
theorem dX2_stored_21 : decode cX2_stored 21 = .ok (.ifCond .eq 21, 3) := dk_153 0 21 (dk_at dksX2_stored_0 21 rfl rfl)
theorem dX2_stored_24 : decode cX2_stored 24 = .ok (.iload 5, 2) := dk_21 5 (dk_at dksX2_stored_1 0 rfl rfl)
theorem dX2_stored_26 : decode cX2_stored 26 = .ok (.iconst 0, 1) := dk_3 (dk_at dksX2_stored_1 2 rfl rfl)
theorem dX2_stored_27 : decode cX2_stored 27 = .ok (.aload_n 0, 1) := dk_42 (dk_at dksX2_stored_1 3 rfl rfl)
theorem dX2_stored_28 : decode cX2_stored 28 = .ok (.getfield 51, 3) := dk_180 0 51 (dk_at dksX2_stored_1 4 rfl rfl)
theorem dX2_stored_31 : decode cX2_stored 31 = .ok (.iload 4, 2) := dk_21 4 (dk_at dksX2_stored_1 7 rfl rfl)
theorem dX2_stored_33 : decode cX2_stored 33 = .ok (.iaload, 1) := dk_46 (dk_at dksX2_stored_1 9 rfl rfl)
theorem dX2_stored_34 : decode cX2_stored 34 = .ok (.iconst 1, 1) := dk_4 (dk_at dksX2_stored_1 10 rfl rfl)
theorem dX2_stored_35 : decode cX2_stored 35 = .ok (.isub, 1) := dk_100 (dk_at dksX2_stored_1 11 rfl rfl)
theorem dX2_stored_36 : decode cX2_stored 36 = .ok (.invokestatic 181, 3) := dk_184 0 181 (dk_at dksX2_stored_1 12 rfl rfl)
theorem dX2_stored_39 : decode cX2_stored 39 = .ok (.ifCond .ne 5, 3) := dk_154 0 5 (dk_at dksX2_stored_1 15 rfl rfl)
theorem dX2_stored_42 : decode cX2_stored 42 = .ok (.iconst (-1), 1) := dk_2 (dk_at dksX2_stored_1 18 rfl rfl)
theorem dX2_stored_43 : decode cX2_stored 43 = .ok (.ireturn, 1) := dk_172 (dk_at dksX2_stored_1 19 rfl rfl)
theorem dX2_stored_44 : decode cX2_stored 44 = .ok (.bipush 6, 2) := dk_16 6 (dk_at dksX2_stored_1 20 rfl rfl)
theorem dX2_stored_46 : decode cX2_stored 46 = .ok (.iload 4, 2) := dk_21 4 (dk_at dksX2_stored_1 22 rfl rfl)
theorem dX2_stored_48 : decode cX2_stored 48 = .ok (.imul, 1) := dk_104 (dk_at dksX2_stored_2 0 rfl rfl)
theorem dX2_stored_49 : decode cX2_stored 49 = .ok (.iload 5, 2) := dk_21 5 (dk_at dksX2_stored_2 1 rfl rfl)
theorem dX2_stored_51 : decode cX2_stored 51 = .ok (.iadd, 1) := dk_96 (dk_at dksX2_stored_2 3 rfl rfl)
theorem dX2_stored_52 : decode cX2_stored 52 = .ok (.istore 7, 2) := dk_54 7 (dk_at dksX2_stored_2 4 rfl rfl)
theorem dX2_stored_54 : decode cX2_stored 54 = .ok (.iload 6, 2) := dk_21 6 (dk_at dksX2_stored_2 6 rfl rfl)
theorem dX2_stored_56 : decode cX2_stored 56 = .ok (.ifCond .ne 13, 3) := dk_154 0 13 (dk_at dksX2_stored_2 8 rfl rfl)
theorem dX2_stored_59 : decode cX2_stored 59 = .ok (.aload_n 0, 1) := dk_42 (dk_at dksX2_stored_2 11 rfl rfl)
theorem dX2_stored_60 : decode cX2_stored 60 = .ok (.getfield 54, 3) := dk_180 0 54 (dk_at dksX2_stored_2 12 rfl rfl)
theorem dX2_stored_63 : decode cX2_stored 63 = .ok (.iload 7, 2) := dk_21 7 (dk_at dksX2_stored_2 15 rfl rfl)
theorem dX2_stored_65 : decode cX2_stored 65 = .ok (.iaload, 1) := dk_46 (dk_at dksX2_stored_2 17 rfl rfl)
theorem dX2_stored_66 : decode cX2_stored 66 = .ok (.goto 36, 3) := dk_167 0 36 (dk_at dksX2_stored_2 18 rfl rfl)
theorem dX2_stored_69 : decode cX2_stored 69 = .ok (.iload 6, 2) := dk_21 6 (dk_at dksX2_stored_2 21 rfl rfl)
theorem dX2_stored_71 : decode cX2_stored 71 = .ok (.iconst 1, 1) := dk_4 (dk_at dksX2_stored_2 23 rfl rfl)
theorem dX2_stored_72 : decode cX2_stored 72 = .ok (.if_icmp .ne 13, 3) := dk_160 0 13 (dk_at dksX2_stored_3 0 rfl rfl)
theorem dX2_stored_75 : decode cX2_stored 75 = .ok (.aload_n 0, 1) := dk_42 (dk_at dksX2_stored_3 3 rfl rfl)
theorem dX2_stored_76 : decode cX2_stored 76 = .ok (.getfield 57, 3) := dk_180 0 57 (dk_at dksX2_stored_3 4 rfl rfl)
theorem dX2_stored_79 : decode cX2_stored 79 = .ok (.iload 7, 2) := dk_21 7 (dk_at dksX2_stored_3 7 rfl rfl)
theorem dX2_stored_81 : decode cX2_stored 81 = .ok (.iaload, 1) := dk_46 (dk_at dksX2_stored_3 9 rfl rfl)
theorem dX2_stored_82 : decode cX2_stored 82 = .ok (.goto 20, 3) := dk_167 0 20 (dk_at dksX2_stored_3 10 rfl rfl)
theorem dX2_stored_85 : decode cX2_stored 85 = .ok (.iload 6, 2) := dk_21 6 (dk_at dksX2_stored_3 13 rfl rfl)
theorem dX2_stored_87 : decode cX2_stored 87 = .ok (.iconst 2, 1) := dk_5 (dk_at dksX2_stored_3 15 rfl rfl)
theorem dX2_stored_88 : decode cX2_stored 88 = .ok (.if_icmp .ne 13, 3) := dk_160 0 13 (dk_at dksX2_stored_3 16 rfl rfl)
theorem dX2_stored_91 : decode cX2_stored 91 = .ok (.aload_n 0, 1) := dk_42 (dk_at dksX2_stored_3 19 rfl rfl)
theorem dX2_stored_92 : decode cX2_stored 92 = .ok (.getfield 60, 3) := dk_180 0 60 (dk_at dksX2_stored_3 20 rfl rfl)
theorem dX2_stored_95 : decode cX2_stored 95 = .ok (.iload 7, 2) := dk_21 7 (dk_at dksX2_stored_4 0 rfl rfl)
theorem dX2_stored_97 : decode cX2_stored 97 = .ok (.iaload, 1) := dk_46 (dk_at dksX2_stored_4 2 rfl rfl)
theorem dX2_stored_98 : decode cX2_stored 98 = .ok (.goto 4, 3) := dk_167 0 4 (dk_at dksX2_stored_4 3 rfl rfl)
theorem dX2_stored_101 : decode cX2_stored 101 = .ok (.iconst (-1), 1) := dk_2 (dk_at dksX2_stored_4 6 rfl rfl)
theorem dX2_stored_102 : decode cX2_stored 102 = .ok (.ireturn, 1) := dk_172 (dk_at dksX2_stored_4 7 rfl rfl)
abbrev cX2_entry : ByteArray := prog_25_method_100_code
def yX2_entry : MethodName := ⟨RX2, "entry", "(IIIIII)I"⟩
def dkwX2_entry_6 : List UInt8 := [21, 7, 46, 172, 42, 180, 0, 90, 21, 7, 46, 172, 42, 180, 0, 93, 21, 7, 46, 172, 2, 172]
abbrev dktX2_entry_6 : List UInt8 := dkwX2_entry_6 ++ []
def dkwX2_entry_5 : List UInt8 := [42, 180, 0, 75, 21, 7, 47, 184, 2, 49, 172, 42, 180, 0, 84, 21, 7, 46, 172, 42, 180, 0, 87]
abbrev dktX2_entry_5 : List UInt8 := dkwX2_entry_5 ++ dktX2_entry_6
def dkwX2_entry_4 : List UInt8 := [42, 180, 0, 66, 21, 7, 46, 172, 42, 180, 0, 69, 21, 7, 46, 172, 42, 180, 0, 72, 21, 7, 46, 172]
abbrev dktX2_entry_4 : List UInt8 := dkwX2_entry_4 ++ dktX2_entry_5
def dkwX2_entry_3 : List UInt8 := [170, 0, 0, 0, 0, 0, 0, 115, 0, 0, 0, 0, 0, 0, 0, 7, 0, 0, 0, 48, 0, 0, 0, 56, 0, 0, 0, 64, 0, 0, 0, 72, 0, 0, 0, 83, 0, 0, 0, 91, 0, 0, 0, 99, 0, 0, 0, 107]
abbrev dktX2_entry_3 : List UInt8 := dkwX2_entry_3 ++ dktX2_entry_4
def dkwX2_entry_2 : List UInt8 := [104, 21, 5, 96, 54, 7, 21, 6]
abbrev dktX2_entry_2 : List UInt8 := dkwX2_entry_2 ++ dktX2_entry_3
def dkwX2_entry_1 : List UInt8 := [21, 5, 3, 42, 180, 0, 63, 21, 4, 46, 4, 100, 184, 0, 181, 154, 0, 5, 2, 172, 16, 64, 21, 4]
abbrev dktX2_entry_1 : List UInt8 := dkwX2_entry_1 ++ dktX2_entry_2
def dkwX2_entry_0 : List UInt8 := [42, 3, 181, 0, 169, 42, 27, 28, 29, 182, 2, 52, 153, 0, 30, 42, 21, 4, 182, 1, 119, 153, 0, 21]
abbrev dktX2_entry_0 : List UInt8 := dkwX2_entry_0 ++ dktX2_entry_1
theorem dksX2_entry_0 : cX2_entry.data.toList.drop 0 = dktX2_entry_0 := by decide +kernel
theorem dksX2_entry_1 : cX2_entry.data.toList.drop 24 = dktX2_entry_1 := dk_seg dksX2_entry_0 24 rfl rfl
theorem dksX2_entry_2 : cX2_entry.data.toList.drop 48 = dktX2_entry_2 := dk_seg dksX2_entry_1 24 rfl rfl
theorem dksX2_entry_3 : cX2_entry.data.toList.drop 56 = dktX2_entry_3 := dk_seg dksX2_entry_2 8 rfl rfl
theorem dksX2_entry_4 : cX2_entry.data.toList.drop 104 = dktX2_entry_4 := dk_seg dksX2_entry_3 48 rfl rfl
theorem dksX2_entry_5 : cX2_entry.data.toList.drop 128 = dktX2_entry_5 := dk_seg dksX2_entry_4 24 rfl rfl
theorem dksX2_entry_6 : cX2_entry.data.toList.drop 151 = dktX2_entry_6 := dk_seg dksX2_entry_5 23 rfl rfl
theorem dX2_entry_0 : decode cX2_entry 0 = .ok (.aload_n 0, 1) := dk_42 (dk_at dksX2_entry_0 0 rfl rfl)
theorem dX2_entry_1 : decode cX2_entry 1 = .ok (.iconst 0, 1) := dk_3 (dk_at dksX2_entry_0 1 rfl rfl)
theorem dX2_entry_2 : decode cX2_entry 2 = .ok (.putfield 169, 3) := dk_181 0 169 (dk_at dksX2_entry_0 2 rfl rfl)
theorem dX2_entry_5 : decode cX2_entry 5 = .ok (.aload_n 0, 1) := dk_42 (dk_at dksX2_entry_0 5 rfl rfl)
theorem dX2_entry_6 : decode cX2_entry 6 = .ok (.iload_n 1, 1) := dk_27 (dk_at dksX2_entry_0 6 rfl rfl)
theorem dX2_entry_7 : decode cX2_entry 7 = .ok (.iload_n 2, 1) := dk_28 (dk_at dksX2_entry_0 7 rfl rfl)
theorem dX2_entry_8 : decode cX2_entry 8 = .ok (.iload_n 3, 1) := dk_29 (dk_at dksX2_entry_0 8 rfl rfl)
theorem dX2_entry_9 : decode cX2_entry 9 = .ok (.invokevirtual 564, 3) := dk_182 2 52 (dk_at dksX2_entry_0 9 rfl rfl)
theorem dX2_entry_12 : decode cX2_entry 12 = .ok (.ifCond .eq 30, 3) := dk_153 0 30 (dk_at dksX2_entry_0 12 rfl rfl)
theorem dX2_entry_15 : decode cX2_entry 15 = .ok (.aload_n 0, 1) := dk_42 (dk_at dksX2_entry_0 15 rfl rfl)
theorem dX2_entry_16 : decode cX2_entry 16 = .ok (.iload 4, 2) := dk_21 4 (dk_at dksX2_entry_0 16 rfl rfl)
theorem dX2_entry_18 : decode cX2_entry 18 = .ok (.invokevirtual 375, 3) := dk_182 1 119 (dk_at dksX2_entry_0 18 rfl rfl)
theorem dX2_entry_21 : decode cX2_entry 21 = .ok (.ifCond .eq 21, 3) := dk_153 0 21 (dk_at dksX2_entry_0 21 rfl rfl)
theorem dX2_entry_24 : decode cX2_entry 24 = .ok (.iload 5, 2) := dk_21 5 (dk_at dksX2_entry_1 0 rfl rfl)
theorem dX2_entry_26 : decode cX2_entry 26 = .ok (.iconst 0, 1) := dk_3 (dk_at dksX2_entry_1 2 rfl rfl)
theorem dX2_entry_27 : decode cX2_entry 27 = .ok (.aload_n 0, 1) := dk_42 (dk_at dksX2_entry_1 3 rfl rfl)
theorem dX2_entry_28 : decode cX2_entry 28 = .ok (.getfield 63, 3) := dk_180 0 63 (dk_at dksX2_entry_1 4 rfl rfl)
theorem dX2_entry_31 : decode cX2_entry 31 = .ok (.iload 4, 2) := dk_21 4 (dk_at dksX2_entry_1 7 rfl rfl)
theorem dX2_entry_33 : decode cX2_entry 33 = .ok (.iaload, 1) := dk_46 (dk_at dksX2_entry_1 9 rfl rfl)
theorem dX2_entry_34 : decode cX2_entry 34 = .ok (.iconst 1, 1) := dk_4 (dk_at dksX2_entry_1 10 rfl rfl)
theorem dX2_entry_35 : decode cX2_entry 35 = .ok (.isub, 1) := dk_100 (dk_at dksX2_entry_1 11 rfl rfl)
theorem dX2_entry_36 : decode cX2_entry 36 = .ok (.invokestatic 181, 3) := dk_184 0 181 (dk_at dksX2_entry_1 12 rfl rfl)
theorem dX2_entry_39 : decode cX2_entry 39 = .ok (.ifCond .ne 5, 3) := dk_154 0 5 (dk_at dksX2_entry_1 15 rfl rfl)
theorem dX2_entry_42 : decode cX2_entry 42 = .ok (.iconst (-1), 1) := dk_2 (dk_at dksX2_entry_1 18 rfl rfl)
theorem dX2_entry_43 : decode cX2_entry 43 = .ok (.ireturn, 1) := dk_172 (dk_at dksX2_entry_1 19 rfl rfl)
theorem dX2_entry_44 : decode cX2_entry 44 = .ok (.bipush 64, 2) := dk_16 64 (dk_at dksX2_entry_1 20 rfl rfl)
theorem dX2_entry_46 : decode cX2_entry 46 = .ok (.iload 4, 2) := dk_21 4 (dk_at dksX2_entry_1 22 rfl rfl)
theorem dX2_entry_48 : decode cX2_entry 48 = .ok (.imul, 1) := dk_104 (dk_at dksX2_entry_2 0 rfl rfl)
theorem dX2_entry_49 : decode cX2_entry 49 = .ok (.iload 5, 2) := dk_21 5 (dk_at dksX2_entry_2 1 rfl rfl)
theorem dX2_entry_51 : decode cX2_entry 51 = .ok (.iadd, 1) := dk_96 (dk_at dksX2_entry_2 3 rfl rfl)
theorem dX2_entry_52 : decode cX2_entry 52 = .ok (.istore 7, 2) := dk_54 7 (dk_at dksX2_entry_2 4 rfl rfl)
theorem dX2_entry_54 : decode cX2_entry 54 = .ok (.iload 6, 2) := dk_21 6 (dk_at dksX2_entry_2 6 rfl rfl)
theorem dX2_entry_56 : decode cX2_entry 56 = .ok (.tableswitch 115 0 7 #[48, 56, 64, 72, 83, 91, 99, 107], 48) := by decide +kernel
theorem dX2_entry_104 : decode cX2_entry 104 = .ok (.aload_n 0, 1) := dk_42 (dk_at dksX2_entry_4 0 rfl rfl)
theorem dX2_entry_105 : decode cX2_entry 105 = .ok (.getfield 66, 3) := dk_180 0 66 (dk_at dksX2_entry_4 1 rfl rfl)
theorem dX2_entry_108 : decode cX2_entry 108 = .ok (.iload 7, 2) := dk_21 7 (dk_at dksX2_entry_4 4 rfl rfl)
theorem dX2_entry_110 : decode cX2_entry 110 = .ok (.iaload, 1) := dk_46 (dk_at dksX2_entry_4 6 rfl rfl)
theorem dX2_entry_111 : decode cX2_entry 111 = .ok (.ireturn, 1) := dk_172 (dk_at dksX2_entry_4 7 rfl rfl)
theorem dX2_entry_112 : decode cX2_entry 112 = .ok (.aload_n 0, 1) := dk_42 (dk_at dksX2_entry_4 8 rfl rfl)
theorem dX2_entry_113 : decode cX2_entry 113 = .ok (.getfield 69, 3) := dk_180 0 69 (dk_at dksX2_entry_4 9 rfl rfl)
theorem dX2_entry_116 : decode cX2_entry 116 = .ok (.iload 7, 2) := dk_21 7 (dk_at dksX2_entry_4 12 rfl rfl)
theorem dX2_entry_118 : decode cX2_entry 118 = .ok (.iaload, 1) := dk_46 (dk_at dksX2_entry_4 14 rfl rfl)
theorem dX2_entry_119 : decode cX2_entry 119 = .ok (.ireturn, 1) := dk_172 (dk_at dksX2_entry_4 15 rfl rfl)
theorem dX2_entry_120 : decode cX2_entry 120 = .ok (.aload_n 0, 1) := dk_42 (dk_at dksX2_entry_4 16 rfl rfl)
theorem dX2_entry_121 : decode cX2_entry 121 = .ok (.getfield 72, 3) := dk_180 0 72 (dk_at dksX2_entry_4 17 rfl rfl)
theorem dX2_entry_124 : decode cX2_entry 124 = .ok (.iload 7, 2) := dk_21 7 (dk_at dksX2_entry_4 20 rfl rfl)
theorem dX2_entry_126 : decode cX2_entry 126 = .ok (.iaload, 1) := dk_46 (dk_at dksX2_entry_4 22 rfl rfl)
theorem dX2_entry_127 : decode cX2_entry 127 = .ok (.ireturn, 1) := dk_172 (dk_at dksX2_entry_4 23 rfl rfl)
theorem dX2_entry_128 : decode cX2_entry 128 = .ok (.aload_n 0, 1) := dk_42 (dk_at dksX2_entry_5 0 rfl rfl)
theorem dX2_entry_129 : decode cX2_entry 129 = .ok (.getfield 75, 3) := dk_180 0 75 (dk_at dksX2_entry_5 1 rfl rfl)
theorem dX2_entry_132 : decode cX2_entry 132 = .ok (.iload 7, 2) := dk_21 7 (dk_at dksX2_entry_5 4 rfl rfl)
theorem dX2_entry_134 : decode cX2_entry 134 = .ok (.laload, 1) := dk_47 (dk_at dksX2_entry_5 6 rfl rfl)
theorem dX2_entry_135 : decode cX2_entry 135 = .ok (.invokestatic 561, 3) := dk_184 2 49 (dk_at dksX2_entry_5 7 rfl rfl)
theorem dX2_entry_138 : decode cX2_entry 138 = .ok (.ireturn, 1) := dk_172 (dk_at dksX2_entry_5 10 rfl rfl)
theorem dX2_entry_139 : decode cX2_entry 139 = .ok (.aload_n 0, 1) := dk_42 (dk_at dksX2_entry_5 11 rfl rfl)
theorem dX2_entry_140 : decode cX2_entry 140 = .ok (.getfield 84, 3) := dk_180 0 84 (dk_at dksX2_entry_5 12 rfl rfl)
theorem dX2_entry_143 : decode cX2_entry 143 = .ok (.iload 7, 2) := dk_21 7 (dk_at dksX2_entry_5 15 rfl rfl)
theorem dX2_entry_145 : decode cX2_entry 145 = .ok (.iaload, 1) := dk_46 (dk_at dksX2_entry_5 17 rfl rfl)
theorem dX2_entry_146 : decode cX2_entry 146 = .ok (.ireturn, 1) := dk_172 (dk_at dksX2_entry_5 18 rfl rfl)
theorem dX2_entry_147 : decode cX2_entry 147 = .ok (.aload_n 0, 1) := dk_42 (dk_at dksX2_entry_5 19 rfl rfl)
theorem dX2_entry_148 : decode cX2_entry 148 = .ok (.getfield 87, 3) := dk_180 0 87 (dk_at dksX2_entry_5 20 rfl rfl)
theorem dX2_entry_151 : decode cX2_entry 151 = .ok (.iload 7, 2) := dk_21 7 (dk_at dksX2_entry_6 0 rfl rfl)
theorem dX2_entry_153 : decode cX2_entry 153 = .ok (.iaload, 1) := dk_46 (dk_at dksX2_entry_6 2 rfl rfl)
theorem dX2_entry_154 : decode cX2_entry 154 = .ok (.ireturn, 1) := dk_172 (dk_at dksX2_entry_6 3 rfl rfl)
theorem dX2_entry_155 : decode cX2_entry 155 = .ok (.aload_n 0, 1) := dk_42 (dk_at dksX2_entry_6 4 rfl rfl)
theorem dX2_entry_156 : decode cX2_entry 156 = .ok (.getfield 90, 3) := dk_180 0 90 (dk_at dksX2_entry_6 5 rfl rfl)
theorem dX2_entry_159 : decode cX2_entry 159 = .ok (.iload 7, 2) := dk_21 7 (dk_at dksX2_entry_6 8 rfl rfl)
theorem dX2_entry_161 : decode cX2_entry 161 = .ok (.iaload, 1) := dk_46 (dk_at dksX2_entry_6 10 rfl rfl)
theorem dX2_entry_162 : decode cX2_entry 162 = .ok (.ireturn, 1) := dk_172 (dk_at dksX2_entry_6 11 rfl rfl)
theorem dX2_entry_163 : decode cX2_entry 163 = .ok (.aload_n 0, 1) := dk_42 (dk_at dksX2_entry_6 12 rfl rfl)
theorem dX2_entry_164 : decode cX2_entry 164 = .ok (.getfield 93, 3) := dk_180 0 93 (dk_at dksX2_entry_6 13 rfl rfl)
theorem dX2_entry_167 : decode cX2_entry 167 = .ok (.iload 7, 2) := dk_21 7 (dk_at dksX2_entry_6 16 rfl rfl)
theorem dX2_entry_169 : decode cX2_entry 169 = .ok (.iaload, 1) := dk_46 (dk_at dksX2_entry_6 18 rfl rfl)
theorem dX2_entry_170 : decode cX2_entry 170 = .ok (.ireturn, 1) := dk_172 (dk_at dksX2_entry_6 19 rfl rfl)
theorem dX2_entry_171 : decode cX2_entry 171 = .ok (.iconst (-1), 1) := dk_2 (dk_at dksX2_entry_6 20 rfl rfl)
theorem dX2_entry_172 : decode cX2_entry 172 = .ok (.ireturn, 1) := dk_172 (dk_at dksX2_entry_6 21 rfl rfl)
abbrev cX2_why : ByteArray := prog_25_method_102_code
def yX2_why : MethodName := ⟨RX2, "why", "(IIII)I"⟩
def dkwX2_why_2 : List UInt8 := [2, 160, 0, 8, 16, 254, 167, 0, 10, 42, 29, 21, 4, 182, 2, 58, 172]
abbrev dktX2_why_2 : List UInt8 := dkwX2_why_2 ++ []
def dkwX2_why_1 : List UInt8 := [184, 0, 181, 154, 0, 6, 16, 254, 172, 42, 42, 182, 2, 22, 182, 2, 43, 87, 42, 180, 0, 129, 29, 46]
abbrev dktX2_why_1 : List UInt8 := dkwX2_why_1 ++ dktX2_why_2
def dkwX2_why_0 : List UInt8 := [42, 3, 181, 0, 169, 42, 27, 28, 182, 2, 40, 153, 0, 17, 29, 3, 42, 182, 2, 22, 4, 100]
abbrev dktX2_why_0 : List UInt8 := dkwX2_why_0 ++ dktX2_why_1
theorem dksX2_why_0 : cX2_why.data.toList.drop 0 = dktX2_why_0 := by decide +kernel
theorem dksX2_why_1 : cX2_why.data.toList.drop 22 = dktX2_why_1 := dk_seg dksX2_why_0 22 rfl rfl
theorem dksX2_why_2 : cX2_why.data.toList.drop 46 = dktX2_why_2 := dk_seg dksX2_why_1 24 rfl rfl
theorem dX2_why_0 : decode cX2_why 0 = .ok (.aload_n 0, 1) := dk_42 (dk_at dksX2_why_0 0 rfl rfl)
theorem dX2_why_1 : decode cX2_why 1 = .ok (.iconst 0, 1) := dk_3 (dk_at dksX2_why_0 1 rfl rfl)
theorem dX2_why_2 : decode cX2_why 2 = .ok (.putfield 169, 3) := dk_181 0 169 (dk_at dksX2_why_0 2 rfl rfl)
theorem dX2_why_5 : decode cX2_why 5 = .ok (.aload_n 0, 1) := dk_42 (dk_at dksX2_why_0 5 rfl rfl)
theorem dX2_why_6 : decode cX2_why 6 = .ok (.iload_n 1, 1) := dk_27 (dk_at dksX2_why_0 6 rfl rfl)
theorem dX2_why_7 : decode cX2_why 7 = .ok (.iload_n 2, 1) := dk_28 (dk_at dksX2_why_0 7 rfl rfl)
theorem dX2_why_8 : decode cX2_why 8 = .ok (.invokevirtual 552, 3) := dk_182 2 40 (dk_at dksX2_why_0 8 rfl rfl)
theorem dX2_why_11 : decode cX2_why 11 = .ok (.ifCond .eq 17, 3) := dk_153 0 17 (dk_at dksX2_why_0 11 rfl rfl)
theorem dX2_why_14 : decode cX2_why 14 = .ok (.iload_n 3, 1) := dk_29 (dk_at dksX2_why_0 14 rfl rfl)
theorem dX2_why_15 : decode cX2_why 15 = .ok (.iconst 0, 1) := dk_3 (dk_at dksX2_why_0 15 rfl rfl)
theorem dX2_why_16 : decode cX2_why 16 = .ok (.aload_n 0, 1) := dk_42 (dk_at dksX2_why_0 16 rfl rfl)
theorem dX2_why_17 : decode cX2_why 17 = .ok (.invokevirtual 534, 3) := dk_182 2 22 (dk_at dksX2_why_0 17 rfl rfl)
theorem dX2_why_20 : decode cX2_why 20 = .ok (.iconst 1, 1) := dk_4 (dk_at dksX2_why_0 20 rfl rfl)
theorem dX2_why_21 : decode cX2_why 21 = .ok (.isub, 1) := dk_100 (dk_at dksX2_why_0 21 rfl rfl)
theorem dX2_why_22 : decode cX2_why 22 = .ok (.invokestatic 181, 3) := dk_184 0 181 (dk_at dksX2_why_1 0 rfl rfl)
theorem dX2_why_25 : decode cX2_why 25 = .ok (.ifCond .ne 6, 3) := dk_154 0 6 (dk_at dksX2_why_1 3 rfl rfl)
theorem dX2_why_28 : decode cX2_why 28 = .ok (.bipush (-2), 2) := dk_16 254 (dk_at dksX2_why_1 6 rfl rfl)
theorem dX2_why_30 : decode cX2_why 30 = .ok (.ireturn, 1) := dk_172 (dk_at dksX2_why_1 8 rfl rfl)
theorem dX2_why_31 : decode cX2_why 31 = .ok (.aload_n 0, 1) := dk_42 (dk_at dksX2_why_1 9 rfl rfl)
theorem dX2_why_32 : decode cX2_why 32 = .ok (.aload_n 0, 1) := dk_42 (dk_at dksX2_why_1 10 rfl rfl)
theorem dX2_why_33 : decode cX2_why 33 = .ok (.invokevirtual 534, 3) := dk_182 2 22 (dk_at dksX2_why_1 11 rfl rfl)
theorem dX2_why_36 : decode cX2_why 36 = .ok (.invokevirtual 555, 3) := dk_182 2 43 (dk_at dksX2_why_1 14 rfl rfl)
theorem dX2_why_39 : decode cX2_why 39 = .ok (.pop, 1) := dk_87 (dk_at dksX2_why_1 17 rfl rfl)
theorem dX2_why_40 : decode cX2_why 40 = .ok (.aload_n 0, 1) := dk_42 (dk_at dksX2_why_1 18 rfl rfl)
theorem dX2_why_41 : decode cX2_why 41 = .ok (.getfield 129, 3) := dk_180 0 129 (dk_at dksX2_why_1 19 rfl rfl)
theorem dX2_why_44 : decode cX2_why 44 = .ok (.iload_n 3, 1) := dk_29 (dk_at dksX2_why_1 22 rfl rfl)
theorem dX2_why_45 : decode cX2_why 45 = .ok (.iaload, 1) := dk_46 (dk_at dksX2_why_1 23 rfl rfl)
theorem dX2_why_46 : decode cX2_why 46 = .ok (.iconst (-1), 1) := dk_2 (dk_at dksX2_why_2 0 rfl rfl)
theorem dX2_why_47 : decode cX2_why 47 = .ok (.if_icmp .ne 8, 3) := dk_160 0 8 (dk_at dksX2_why_2 1 rfl rfl)
theorem dX2_why_50 : decode cX2_why 50 = .ok (.bipush (-2), 2) := dk_16 254 (dk_at dksX2_why_2 4 rfl rfl)
theorem dX2_why_52 : decode cX2_why 52 = .ok (.goto 10, 3) := dk_167 0 10 (dk_at dksX2_why_2 6 rfl rfl)
theorem dX2_why_55 : decode cX2_why 55 = .ok (.aload_n 0, 1) := dk_42 (dk_at dksX2_why_2 9 rfl rfl)
theorem dX2_why_56 : decode cX2_why 56 = .ok (.iload_n 3, 1) := dk_29 (dk_at dksX2_why_2 10 rfl rfl)
theorem dX2_why_57 : decode cX2_why 57 = .ok (.iload 4, 2) := dk_21 4 (dk_at dksX2_why_2 11 rfl rfl)
theorem dX2_why_59 : decode cX2_why 59 = .ok (.invokevirtual 570, 3) := dk_182 2 58 (dk_at dksX2_why_2 13 rfl rfl)
theorem dX2_why_62 : decode cX2_why 62 = .ok (.ireturn, 1) := dk_172 (dk_at dksX2_why_2 16 rfl rfl)
abbrev cX2_ofAsk : ByteArray := prog_25_method_101_code
def yX2_ofAsk : MethodName := ⟨RX2, "ofAsk", "(II)I"⟩
def dkwX2_ofAsk_6 : List UInt8 := [2, 172, 16, 254, 172]
abbrev dktX2_ofAsk_6 : List UInt8 := dkwX2_ofAsk_6 ++ []
def dkwX2_ofAsk_5 : List UInt8 := [180, 0, 147, 27, 46, 167, 0, 4, 2, 172, 29, 5, 160, 0, 12, 42, 180, 0, 150, 27, 46, 167, 0, 4]
abbrev dktX2_ofAsk_5 : List UInt8 := dkwX2_ofAsk_5 ++ dktX2_ofAsk_6
def dkwX2_ofAsk_4 : List UInt8 := [2, 172, 29, 5, 160, 0, 12, 42, 180, 0, 144, 27, 46, 167, 0, 4, 2, 172, 29, 5, 160, 0, 12, 42]
abbrev dktX2_ofAsk_4 : List UInt8 := dkwX2_ofAsk_4 ++ dktX2_ofAsk_5
def dkwX2_ofAsk_3 : List UInt8 := [180, 0, 138, 27, 46, 167, 0, 4, 2, 172, 29, 4, 160, 0, 12, 42, 180, 0, 141, 27, 46, 167, 0, 4]
abbrev dktX2_ofAsk_3 : List UInt8 := dkwX2_ofAsk_3 ++ dktX2_ofAsk_4
def dkwX2_ofAsk_2 : List UInt8 := [29, 172, 29, 154, 0, 7, 2, 167, 0, 9, 42, 180, 0, 132, 27, 46, 172, 29, 4, 160, 0, 12, 42]
abbrev dktX2_ofAsk_2 : List UInt8 := dkwX2_ofAsk_2 ++ dktX2_ofAsk_3
def dkwX2_ofAsk_1 : List UInt8 := [170, 0, 0, 0, 0, 0, 0, 141, 0, 0, 0, 0, 0, 0, 0, 6, 0, 0, 0, 44, 0, 0, 0, 46, 0, 0, 0, 61, 0, 0, 0, 77, 0, 0, 0, 93, 0, 0, 0, 109, 0, 0, 0, 125]
abbrev dktX2_ofAsk_1 : List UInt8 := dkwX2_ofAsk_1 ++ dktX2_ofAsk_2
def dkwX2_ofAsk_0 : List UInt8 := [42, 180, 0, 129, 27, 46, 62, 28]
abbrev dktX2_ofAsk_0 : List UInt8 := dkwX2_ofAsk_0 ++ dktX2_ofAsk_1
theorem dksX2_ofAsk_0 : cX2_ofAsk.data.toList.drop 0 = dktX2_ofAsk_0 := by decide +kernel
theorem dksX2_ofAsk_1 : cX2_ofAsk.data.toList.drop 8 = dktX2_ofAsk_1 := dk_seg dksX2_ofAsk_0 8 rfl rfl
theorem dksX2_ofAsk_2 : cX2_ofAsk.data.toList.drop 52 = dktX2_ofAsk_2 := dk_seg dksX2_ofAsk_1 44 rfl rfl
theorem dksX2_ofAsk_3 : cX2_ofAsk.data.toList.drop 75 = dktX2_ofAsk_3 := dk_seg dksX2_ofAsk_2 23 rfl rfl
theorem dksX2_ofAsk_4 : cX2_ofAsk.data.toList.drop 99 = dktX2_ofAsk_4 := dk_seg dksX2_ofAsk_3 24 rfl rfl
theorem dksX2_ofAsk_5 : cX2_ofAsk.data.toList.drop 123 = dktX2_ofAsk_5 := dk_seg dksX2_ofAsk_4 24 rfl rfl
theorem dksX2_ofAsk_6 : cX2_ofAsk.data.toList.drop 147 = dktX2_ofAsk_6 := dk_seg dksX2_ofAsk_5 24 rfl rfl
theorem dX2_ofAsk_0 : decode cX2_ofAsk 0 = .ok (.aload_n 0, 1) := dk_42 (dk_at dksX2_ofAsk_0 0 rfl rfl)
theorem dX2_ofAsk_1 : decode cX2_ofAsk 1 = .ok (.getfield 129, 3) := dk_180 0 129 (dk_at dksX2_ofAsk_0 1 rfl rfl)
theorem dX2_ofAsk_4 : decode cX2_ofAsk 4 = .ok (.iload_n 1, 1) := dk_27 (dk_at dksX2_ofAsk_0 4 rfl rfl)
theorem dX2_ofAsk_5 : decode cX2_ofAsk 5 = .ok (.iaload, 1) := dk_46 (dk_at dksX2_ofAsk_0 5 rfl rfl)
theorem dX2_ofAsk_6 : decode cX2_ofAsk 6 = .ok (.istore_n 3, 1) := dk_62 (dk_at dksX2_ofAsk_0 6 rfl rfl)
theorem dX2_ofAsk_7 : decode cX2_ofAsk 7 = .ok (.iload_n 2, 1) := dk_28 (dk_at dksX2_ofAsk_0 7 rfl rfl)
theorem dX2_ofAsk_8 : decode cX2_ofAsk 8 = .ok (.tableswitch 141 0 6 #[44, 46, 61, 77, 93, 109, 125], 44) := by decide +kernel
theorem dX2_ofAsk_52 : decode cX2_ofAsk 52 = .ok (.iload_n 3, 1) := dk_29 (dk_at dksX2_ofAsk_2 0 rfl rfl)
theorem dX2_ofAsk_53 : decode cX2_ofAsk 53 = .ok (.ireturn, 1) := dk_172 (dk_at dksX2_ofAsk_2 1 rfl rfl)
theorem dX2_ofAsk_54 : decode cX2_ofAsk 54 = .ok (.iload_n 3, 1) := dk_29 (dk_at dksX2_ofAsk_2 2 rfl rfl)
theorem dX2_ofAsk_55 : decode cX2_ofAsk 55 = .ok (.ifCond .ne 7, 3) := dk_154 0 7 (dk_at dksX2_ofAsk_2 3 rfl rfl)
theorem dX2_ofAsk_58 : decode cX2_ofAsk 58 = .ok (.iconst (-1), 1) := dk_2 (dk_at dksX2_ofAsk_2 6 rfl rfl)
theorem dX2_ofAsk_59 : decode cX2_ofAsk 59 = .ok (.goto 9, 3) := dk_167 0 9 (dk_at dksX2_ofAsk_2 7 rfl rfl)
theorem dX2_ofAsk_62 : decode cX2_ofAsk 62 = .ok (.aload_n 0, 1) := dk_42 (dk_at dksX2_ofAsk_2 10 rfl rfl)
theorem dX2_ofAsk_63 : decode cX2_ofAsk 63 = .ok (.getfield 132, 3) := dk_180 0 132 (dk_at dksX2_ofAsk_2 11 rfl rfl)
theorem dX2_ofAsk_66 : decode cX2_ofAsk 66 = .ok (.iload_n 1, 1) := dk_27 (dk_at dksX2_ofAsk_2 14 rfl rfl)
theorem dX2_ofAsk_67 : decode cX2_ofAsk 67 = .ok (.iaload, 1) := dk_46 (dk_at dksX2_ofAsk_2 15 rfl rfl)
theorem dX2_ofAsk_68 : decode cX2_ofAsk 68 = .ok (.ireturn, 1) := dk_172 (dk_at dksX2_ofAsk_2 16 rfl rfl)
theorem dX2_ofAsk_69 : decode cX2_ofAsk 69 = .ok (.iload_n 3, 1) := dk_29 (dk_at dksX2_ofAsk_2 17 rfl rfl)
theorem dX2_ofAsk_70 : decode cX2_ofAsk 70 = .ok (.iconst 1, 1) := dk_4 (dk_at dksX2_ofAsk_2 18 rfl rfl)
theorem dX2_ofAsk_71 : decode cX2_ofAsk 71 = .ok (.if_icmp .ne 12, 3) := dk_160 0 12 (dk_at dksX2_ofAsk_2 19 rfl rfl)
theorem dX2_ofAsk_74 : decode cX2_ofAsk 74 = .ok (.aload_n 0, 1) := dk_42 (dk_at dksX2_ofAsk_2 22 rfl rfl)
theorem dX2_ofAsk_75 : decode cX2_ofAsk 75 = .ok (.getfield 138, 3) := dk_180 0 138 (dk_at dksX2_ofAsk_3 0 rfl rfl)
theorem dX2_ofAsk_78 : decode cX2_ofAsk 78 = .ok (.iload_n 1, 1) := dk_27 (dk_at dksX2_ofAsk_3 3 rfl rfl)
theorem dX2_ofAsk_79 : decode cX2_ofAsk 79 = .ok (.iaload, 1) := dk_46 (dk_at dksX2_ofAsk_3 4 rfl rfl)
theorem dX2_ofAsk_80 : decode cX2_ofAsk 80 = .ok (.goto 4, 3) := dk_167 0 4 (dk_at dksX2_ofAsk_3 5 rfl rfl)
theorem dX2_ofAsk_83 : decode cX2_ofAsk 83 = .ok (.iconst (-1), 1) := dk_2 (dk_at dksX2_ofAsk_3 8 rfl rfl)
theorem dX2_ofAsk_84 : decode cX2_ofAsk 84 = .ok (.ireturn, 1) := dk_172 (dk_at dksX2_ofAsk_3 9 rfl rfl)
theorem dX2_ofAsk_85 : decode cX2_ofAsk 85 = .ok (.iload_n 3, 1) := dk_29 (dk_at dksX2_ofAsk_3 10 rfl rfl)
theorem dX2_ofAsk_86 : decode cX2_ofAsk 86 = .ok (.iconst 1, 1) := dk_4 (dk_at dksX2_ofAsk_3 11 rfl rfl)
theorem dX2_ofAsk_87 : decode cX2_ofAsk 87 = .ok (.if_icmp .ne 12, 3) := dk_160 0 12 (dk_at dksX2_ofAsk_3 12 rfl rfl)
theorem dX2_ofAsk_90 : decode cX2_ofAsk 90 = .ok (.aload_n 0, 1) := dk_42 (dk_at dksX2_ofAsk_3 15 rfl rfl)
theorem dX2_ofAsk_91 : decode cX2_ofAsk 91 = .ok (.getfield 141, 3) := dk_180 0 141 (dk_at dksX2_ofAsk_3 16 rfl rfl)
theorem dX2_ofAsk_94 : decode cX2_ofAsk 94 = .ok (.iload_n 1, 1) := dk_27 (dk_at dksX2_ofAsk_3 19 rfl rfl)
theorem dX2_ofAsk_95 : decode cX2_ofAsk 95 = .ok (.iaload, 1) := dk_46 (dk_at dksX2_ofAsk_3 20 rfl rfl)
theorem dX2_ofAsk_96 : decode cX2_ofAsk 96 = .ok (.goto 4, 3) := dk_167 0 4 (dk_at dksX2_ofAsk_3 21 rfl rfl)
theorem dX2_ofAsk_99 : decode cX2_ofAsk 99 = .ok (.iconst (-1), 1) := dk_2 (dk_at dksX2_ofAsk_4 0 rfl rfl)
theorem dX2_ofAsk_100 : decode cX2_ofAsk 100 = .ok (.ireturn, 1) := dk_172 (dk_at dksX2_ofAsk_4 1 rfl rfl)
theorem dX2_ofAsk_101 : decode cX2_ofAsk 101 = .ok (.iload_n 3, 1) := dk_29 (dk_at dksX2_ofAsk_4 2 rfl rfl)
theorem dX2_ofAsk_102 : decode cX2_ofAsk 102 = .ok (.iconst 2, 1) := dk_5 (dk_at dksX2_ofAsk_4 3 rfl rfl)
theorem dX2_ofAsk_103 : decode cX2_ofAsk 103 = .ok (.if_icmp .ne 12, 3) := dk_160 0 12 (dk_at dksX2_ofAsk_4 4 rfl rfl)
theorem dX2_ofAsk_106 : decode cX2_ofAsk 106 = .ok (.aload_n 0, 1) := dk_42 (dk_at dksX2_ofAsk_4 7 rfl rfl)
theorem dX2_ofAsk_107 : decode cX2_ofAsk 107 = .ok (.getfield 144, 3) := dk_180 0 144 (dk_at dksX2_ofAsk_4 8 rfl rfl)
theorem dX2_ofAsk_110 : decode cX2_ofAsk 110 = .ok (.iload_n 1, 1) := dk_27 (dk_at dksX2_ofAsk_4 11 rfl rfl)
theorem dX2_ofAsk_111 : decode cX2_ofAsk 111 = .ok (.iaload, 1) := dk_46 (dk_at dksX2_ofAsk_4 12 rfl rfl)
theorem dX2_ofAsk_112 : decode cX2_ofAsk 112 = .ok (.goto 4, 3) := dk_167 0 4 (dk_at dksX2_ofAsk_4 13 rfl rfl)
theorem dX2_ofAsk_115 : decode cX2_ofAsk 115 = .ok (.iconst (-1), 1) := dk_2 (dk_at dksX2_ofAsk_4 16 rfl rfl)
theorem dX2_ofAsk_116 : decode cX2_ofAsk 116 = .ok (.ireturn, 1) := dk_172 (dk_at dksX2_ofAsk_4 17 rfl rfl)
theorem dX2_ofAsk_117 : decode cX2_ofAsk 117 = .ok (.iload_n 3, 1) := dk_29 (dk_at dksX2_ofAsk_4 18 rfl rfl)
theorem dX2_ofAsk_118 : decode cX2_ofAsk 118 = .ok (.iconst 2, 1) := dk_5 (dk_at dksX2_ofAsk_4 19 rfl rfl)
theorem dX2_ofAsk_119 : decode cX2_ofAsk 119 = .ok (.if_icmp .ne 12, 3) := dk_160 0 12 (dk_at dksX2_ofAsk_4 20 rfl rfl)
theorem dX2_ofAsk_122 : decode cX2_ofAsk 122 = .ok (.aload_n 0, 1) := dk_42 (dk_at dksX2_ofAsk_4 23 rfl rfl)
theorem dX2_ofAsk_123 : decode cX2_ofAsk 123 = .ok (.getfield 147, 3) := dk_180 0 147 (dk_at dksX2_ofAsk_5 0 rfl rfl)
theorem dX2_ofAsk_126 : decode cX2_ofAsk 126 = .ok (.iload_n 1, 1) := dk_27 (dk_at dksX2_ofAsk_5 3 rfl rfl)
theorem dX2_ofAsk_127 : decode cX2_ofAsk 127 = .ok (.iaload, 1) := dk_46 (dk_at dksX2_ofAsk_5 4 rfl rfl)
theorem dX2_ofAsk_128 : decode cX2_ofAsk 128 = .ok (.goto 4, 3) := dk_167 0 4 (dk_at dksX2_ofAsk_5 5 rfl rfl)
theorem dX2_ofAsk_131 : decode cX2_ofAsk 131 = .ok (.iconst (-1), 1) := dk_2 (dk_at dksX2_ofAsk_5 8 rfl rfl)
theorem dX2_ofAsk_132 : decode cX2_ofAsk 132 = .ok (.ireturn, 1) := dk_172 (dk_at dksX2_ofAsk_5 9 rfl rfl)
theorem dX2_ofAsk_133 : decode cX2_ofAsk 133 = .ok (.iload_n 3, 1) := dk_29 (dk_at dksX2_ofAsk_5 10 rfl rfl)
theorem dX2_ofAsk_134 : decode cX2_ofAsk 134 = .ok (.iconst 2, 1) := dk_5 (dk_at dksX2_ofAsk_5 11 rfl rfl)
theorem dX2_ofAsk_135 : decode cX2_ofAsk 135 = .ok (.if_icmp .ne 12, 3) := dk_160 0 12 (dk_at dksX2_ofAsk_5 12 rfl rfl)
theorem dX2_ofAsk_138 : decode cX2_ofAsk 138 = .ok (.aload_n 0, 1) := dk_42 (dk_at dksX2_ofAsk_5 15 rfl rfl)
theorem dX2_ofAsk_139 : decode cX2_ofAsk 139 = .ok (.getfield 150, 3) := dk_180 0 150 (dk_at dksX2_ofAsk_5 16 rfl rfl)
theorem dX2_ofAsk_142 : decode cX2_ofAsk 142 = .ok (.iload_n 1, 1) := dk_27 (dk_at dksX2_ofAsk_5 19 rfl rfl)
theorem dX2_ofAsk_143 : decode cX2_ofAsk 143 = .ok (.iaload, 1) := dk_46 (dk_at dksX2_ofAsk_5 20 rfl rfl)
theorem dX2_ofAsk_144 : decode cX2_ofAsk 144 = .ok (.goto 4, 3) := dk_167 0 4 (dk_at dksX2_ofAsk_5 21 rfl rfl)
theorem dX2_ofAsk_147 : decode cX2_ofAsk 147 = .ok (.iconst (-1), 1) := dk_2 (dk_at dksX2_ofAsk_6 0 rfl rfl)
theorem dX2_ofAsk_148 : decode cX2_ofAsk 148 = .ok (.ireturn, 1) := dk_172 (dk_at dksX2_ofAsk_6 1 rfl rfl)
theorem dX2_ofAsk_149 : decode cX2_ofAsk 149 = .ok (.bipush (-2), 2) := dk_16 254 (dk_at dksX2_ofAsk_6 2 rfl rfl)
theorem dX2_ofAsk_151 : decode cX2_ofAsk 151 = .ok (.ireturn, 1) := dk_172 (dk_at dksX2_ofAsk_6 4 rfl rfl)
abbrev cX2_alone : ByteArray := prog_25_method_103_code
def yX2_alone : MethodName := ⟨RX2, "alone", "(IIIII)I"⟩
def dkwX2_alone_4 : List UInt8 := [172]
abbrev dktX2_alone_4 : List UInt8 := dkwX2_alone_4 ++ []
def dkwX2_alone_3 : List UInt8 := [182, 2, 9, 87, 21, 5, 5, 160, 0, 10, 42, 180, 1, 134, 167, 0, 10, 42, 3, 21, 5, 182, 2, 58]
abbrev dktX2_alone_3 : List UInt8 := dkwX2_alone_3 ++ dktX2_alone_4
def dkwX2_alone_2 : List UInt8 := [154, 0, 6, 16, 254, 172, 42, 2, 182, 2, 37, 42, 28, 29, 21, 4, 3, 182, 2, 6, 87, 42, 16, 99]
abbrev dktX2_alone_2 : List UInt8 := dkwX2_alone_2 ++ dktX2_alone_3
def dkwX2_alone_1 : List UInt8 := [184, 2, 61, 153, 0, 23, 21, 4, 3, 4, 184, 0, 181, 153, 0, 13, 21, 5, 3, 5, 184, 0, 181]
abbrev dktX2_alone_1 : List UInt8 := dkwX2_alone_1 ++ dktX2_alone_2
def dkwX2_alone_0 : List UInt8 := [42, 3, 181, 0, 169, 42, 27, 182, 1, 116, 153, 0, 38, 42, 28, 182, 1, 119, 153, 0, 30, 29]
abbrev dktX2_alone_0 : List UInt8 := dkwX2_alone_0 ++ dktX2_alone_1
theorem dksX2_alone_0 : cX2_alone.data.toList.drop 0 = dktX2_alone_0 := by decide +kernel
theorem dksX2_alone_1 : cX2_alone.data.toList.drop 22 = dktX2_alone_1 := dk_seg dksX2_alone_0 22 rfl rfl
theorem dksX2_alone_2 : cX2_alone.data.toList.drop 45 = dktX2_alone_2 := dk_seg dksX2_alone_1 23 rfl rfl
theorem dksX2_alone_3 : cX2_alone.data.toList.drop 69 = dktX2_alone_3 := dk_seg dksX2_alone_2 24 rfl rfl
theorem dksX2_alone_4 : cX2_alone.data.toList.drop 93 = dktX2_alone_4 := dk_seg dksX2_alone_3 24 rfl rfl
theorem dX2_alone_0 : decode cX2_alone 0 = .ok (.aload_n 0, 1) := dk_42 (dk_at dksX2_alone_0 0 rfl rfl)
theorem dX2_alone_1 : decode cX2_alone 1 = .ok (.iconst 0, 1) := dk_3 (dk_at dksX2_alone_0 1 rfl rfl)
theorem dX2_alone_2 : decode cX2_alone 2 = .ok (.putfield 169, 3) := dk_181 0 169 (dk_at dksX2_alone_0 2 rfl rfl)
theorem dX2_alone_5 : decode cX2_alone 5 = .ok (.aload_n 0, 1) := dk_42 (dk_at dksX2_alone_0 5 rfl rfl)
theorem dX2_alone_6 : decode cX2_alone 6 = .ok (.iload_n 1, 1) := dk_27 (dk_at dksX2_alone_0 6 rfl rfl)
theorem dX2_alone_7 : decode cX2_alone 7 = .ok (.invokevirtual 372, 3) := dk_182 1 116 (dk_at dksX2_alone_0 7 rfl rfl)
theorem dX2_alone_10 : decode cX2_alone 10 = .ok (.ifCond .eq 38, 3) := dk_153 0 38 (dk_at dksX2_alone_0 10 rfl rfl)
theorem dX2_alone_13 : decode cX2_alone 13 = .ok (.aload_n 0, 1) := dk_42 (dk_at dksX2_alone_0 13 rfl rfl)
theorem dX2_alone_14 : decode cX2_alone 14 = .ok (.iload_n 2, 1) := dk_28 (dk_at dksX2_alone_0 14 rfl rfl)
theorem dX2_alone_15 : decode cX2_alone 15 = .ok (.invokevirtual 375, 3) := dk_182 1 119 (dk_at dksX2_alone_0 15 rfl rfl)
theorem dX2_alone_18 : decode cX2_alone 18 = .ok (.ifCond .eq 30, 3) := dk_153 0 30 (dk_at dksX2_alone_0 18 rfl rfl)
theorem dX2_alone_21 : decode cX2_alone 21 = .ok (.iload_n 3, 1) := dk_29 (dk_at dksX2_alone_0 21 rfl rfl)
theorem dX2_alone_22 : decode cX2_alone 22 = .ok (.invokestatic 573, 3) := dk_184 2 61 (dk_at dksX2_alone_1 0 rfl rfl)
theorem dX2_alone_25 : decode cX2_alone 25 = .ok (.ifCond .eq 23, 3) := dk_153 0 23 (dk_at dksX2_alone_1 3 rfl rfl)
theorem dX2_alone_28 : decode cX2_alone 28 = .ok (.iload 4, 2) := dk_21 4 (dk_at dksX2_alone_1 6 rfl rfl)
theorem dX2_alone_30 : decode cX2_alone 30 = .ok (.iconst 0, 1) := dk_3 (dk_at dksX2_alone_1 8 rfl rfl)
theorem dX2_alone_31 : decode cX2_alone 31 = .ok (.iconst 1, 1) := dk_4 (dk_at dksX2_alone_1 9 rfl rfl)
theorem dX2_alone_32 : decode cX2_alone 32 = .ok (.invokestatic 181, 3) := dk_184 0 181 (dk_at dksX2_alone_1 10 rfl rfl)
theorem dX2_alone_35 : decode cX2_alone 35 = .ok (.ifCond .eq 13, 3) := dk_153 0 13 (dk_at dksX2_alone_1 13 rfl rfl)
theorem dX2_alone_38 : decode cX2_alone 38 = .ok (.iload 5, 2) := dk_21 5 (dk_at dksX2_alone_1 16 rfl rfl)
theorem dX2_alone_40 : decode cX2_alone 40 = .ok (.iconst 0, 1) := dk_3 (dk_at dksX2_alone_1 18 rfl rfl)
theorem dX2_alone_41 : decode cX2_alone 41 = .ok (.iconst 2, 1) := dk_5 (dk_at dksX2_alone_1 19 rfl rfl)
theorem dX2_alone_42 : decode cX2_alone 42 = .ok (.invokestatic 181, 3) := dk_184 0 181 (dk_at dksX2_alone_1 20 rfl rfl)
theorem dX2_alone_45 : decode cX2_alone 45 = .ok (.ifCond .ne 6, 3) := dk_154 0 6 (dk_at dksX2_alone_2 0 rfl rfl)
theorem dX2_alone_48 : decode cX2_alone 48 = .ok (.bipush (-2), 2) := dk_16 254 (dk_at dksX2_alone_2 3 rfl rfl)
theorem dX2_alone_50 : decode cX2_alone 50 = .ok (.ireturn, 1) := dk_172 (dk_at dksX2_alone_2 5 rfl rfl)
theorem dX2_alone_51 : decode cX2_alone 51 = .ok (.aload_n 0, 1) := dk_42 (dk_at dksX2_alone_2 6 rfl rfl)
theorem dX2_alone_52 : decode cX2_alone 52 = .ok (.iconst (-1), 1) := dk_2 (dk_at dksX2_alone_2 7 rfl rfl)
theorem dX2_alone_53 : decode cX2_alone 53 = .ok (.invokevirtual 549, 3) := dk_182 2 37 (dk_at dksX2_alone_2 8 rfl rfl)
theorem dX2_alone_56 : decode cX2_alone 56 = .ok (.aload_n 0, 1) := dk_42 (dk_at dksX2_alone_2 11 rfl rfl)
theorem dX2_alone_57 : decode cX2_alone 57 = .ok (.iload_n 2, 1) := dk_28 (dk_at dksX2_alone_2 12 rfl rfl)
theorem dX2_alone_58 : decode cX2_alone 58 = .ok (.iload_n 3, 1) := dk_29 (dk_at dksX2_alone_2 13 rfl rfl)
theorem dX2_alone_59 : decode cX2_alone 59 = .ok (.iload 4, 2) := dk_21 4 (dk_at dksX2_alone_2 14 rfl rfl)
theorem dX2_alone_61 : decode cX2_alone 61 = .ok (.iconst 0, 1) := dk_3 (dk_at dksX2_alone_2 16 rfl rfl)
theorem dX2_alone_62 : decode cX2_alone 62 = .ok (.invokevirtual 518, 3) := dk_182 2 6 (dk_at dksX2_alone_2 17 rfl rfl)
theorem dX2_alone_65 : decode cX2_alone 65 = .ok (.pop, 1) := dk_87 (dk_at dksX2_alone_2 20 rfl rfl)
theorem dX2_alone_66 : decode cX2_alone 66 = .ok (.aload_n 0, 1) := dk_42 (dk_at dksX2_alone_2 21 rfl rfl)
theorem dX2_alone_67 : decode cX2_alone 67 = .ok (.bipush 99, 2) := dk_16 99 (dk_at dksX2_alone_2 22 rfl rfl)
theorem dX2_alone_69 : decode cX2_alone 69 = .ok (.invokevirtual 521, 3) := dk_182 2 9 (dk_at dksX2_alone_3 0 rfl rfl)
theorem dX2_alone_72 : decode cX2_alone 72 = .ok (.pop, 1) := dk_87 (dk_at dksX2_alone_3 3 rfl rfl)
theorem dX2_alone_73 : decode cX2_alone 73 = .ok (.iload 5, 2) := dk_21 5 (dk_at dksX2_alone_3 4 rfl rfl)
theorem dX2_alone_75 : decode cX2_alone 75 = .ok (.iconst 2, 1) := dk_5 (dk_at dksX2_alone_3 6 rfl rfl)
theorem dX2_alone_76 : decode cX2_alone 76 = .ok (.if_icmp .ne 10, 3) := dk_160 0 10 (dk_at dksX2_alone_3 7 rfl rfl)
theorem dX2_alone_79 : decode cX2_alone 79 = .ok (.aload_n 0, 1) := dk_42 (dk_at dksX2_alone_3 10 rfl rfl)
theorem dX2_alone_80 : decode cX2_alone 80 = .ok (.getfield 390, 3) := dk_180 1 134 (dk_at dksX2_alone_3 11 rfl rfl)
theorem dX2_alone_83 : decode cX2_alone 83 = .ok (.goto 10, 3) := dk_167 0 10 (dk_at dksX2_alone_3 14 rfl rfl)
theorem dX2_alone_86 : decode cX2_alone 86 = .ok (.aload_n 0, 1) := dk_42 (dk_at dksX2_alone_3 17 rfl rfl)
theorem dX2_alone_87 : decode cX2_alone 87 = .ok (.iconst 0, 1) := dk_3 (dk_at dksX2_alone_3 18 rfl rfl)
theorem dX2_alone_88 : decode cX2_alone 88 = .ok (.iload 5, 2) := dk_21 5 (dk_at dksX2_alone_3 19 rfl rfl)
theorem dX2_alone_90 : decode cX2_alone 90 = .ok (.invokevirtual 570, 3) := dk_182 2 58 (dk_at dksX2_alone_3 21 rfl rfl)
theorem dX2_alone_93 : decode cX2_alone 93 = .ok (.ireturn, 1) := dk_172 (dk_at dksX2_alone_4 0 rfl rfl)
abbrev cX2_isName : ByteArray := prog_25_method_49_code
def yX2_isName : MethodName := ⟨RX2, "isName", "(I)Z"⟩
def dkwX2_isName_1 : List UInt8 := [153, 0, 7, 4, 167, 0, 4, 3, 60, 28, 16, 27, 108, 61, 167, 255, 230, 27, 172]
abbrev dktX2_isName_1 : List UInt8 := dkwX2_isName_1 ++ []
def dkwX2_isName_0 : List UInt8 := [26, 184, 1, 98, 4, 7, 184, 0, 181, 60, 26, 61, 28, 158, 0, 28, 27, 153, 0, 24, 28, 16, 27, 112]
abbrev dktX2_isName_0 : List UInt8 := dkwX2_isName_0 ++ dktX2_isName_1
theorem dksX2_isName_0 : cX2_isName.data.toList.drop 0 = dktX2_isName_0 := by decide +kernel
theorem dksX2_isName_1 : cX2_isName.data.toList.drop 24 = dktX2_isName_1 := dk_seg dksX2_isName_0 24 rfl rfl
theorem dX2_isName_0 : decode cX2_isName 0 = .ok (.iload_n 0, 1) := dk_26 (dk_at dksX2_isName_0 0 rfl rfl)
theorem dX2_isName_1 : decode cX2_isName 1 = .ok (.invokestatic 354, 3) := dk_184 1 98 (dk_at dksX2_isName_0 1 rfl rfl)
theorem dX2_isName_4 : decode cX2_isName 4 = .ok (.iconst 1, 1) := dk_4 (dk_at dksX2_isName_0 4 rfl rfl)
theorem dX2_isName_5 : decode cX2_isName 5 = .ok (.iconst 4, 1) := dk_7 (dk_at dksX2_isName_0 5 rfl rfl)
theorem dX2_isName_6 : decode cX2_isName 6 = .ok (.invokestatic 181, 3) := dk_184 0 181 (dk_at dksX2_isName_0 6 rfl rfl)
theorem dX2_isName_9 : decode cX2_isName 9 = .ok (.istore_n 1, 1) := dk_60 (dk_at dksX2_isName_0 9 rfl rfl)
theorem dX2_isName_10 : decode cX2_isName 10 = .ok (.iload_n 0, 1) := dk_26 (dk_at dksX2_isName_0 10 rfl rfl)
theorem dX2_isName_11 : decode cX2_isName 11 = .ok (.istore_n 2, 1) := dk_61 (dk_at dksX2_isName_0 11 rfl rfl)
theorem dX2_isName_12 : decode cX2_isName 12 = .ok (.iload_n 2, 1) := dk_28 (dk_at dksX2_isName_0 12 rfl rfl)
theorem dX2_isName_13 : decode cX2_isName 13 = .ok (.ifCond .le 28, 3) := dk_158 0 28 (dk_at dksX2_isName_0 13 rfl rfl)
theorem dX2_isName_16 : decode cX2_isName 16 = .ok (.iload_n 1, 1) := dk_27 (dk_at dksX2_isName_0 16 rfl rfl)
theorem dX2_isName_17 : decode cX2_isName 17 = .ok (.ifCond .eq 24, 3) := dk_153 0 24 (dk_at dksX2_isName_0 17 rfl rfl)
theorem dX2_isName_20 : decode cX2_isName 20 = .ok (.iload_n 2, 1) := dk_28 (dk_at dksX2_isName_0 20 rfl rfl)
theorem dX2_isName_21 : decode cX2_isName 21 = .ok (.bipush 27, 2) := dk_16 27 (dk_at dksX2_isName_0 21 rfl rfl)
theorem dX2_isName_23 : decode cX2_isName 23 = .ok (.irem, 1) := dk_112 (dk_at dksX2_isName_0 23 rfl rfl)
theorem dX2_isName_24 : decode cX2_isName 24 = .ok (.ifCond .eq 7, 3) := dk_153 0 7 (dk_at dksX2_isName_1 0 rfl rfl)
theorem dX2_isName_27 : decode cX2_isName 27 = .ok (.iconst 1, 1) := dk_4 (dk_at dksX2_isName_1 3 rfl rfl)
theorem dX2_isName_28 : decode cX2_isName 28 = .ok (.goto 4, 3) := dk_167 0 4 (dk_at dksX2_isName_1 4 rfl rfl)
theorem dX2_isName_31 : decode cX2_isName 31 = .ok (.iconst 0, 1) := dk_3 (dk_at dksX2_isName_1 7 rfl rfl)
theorem dX2_isName_32 : decode cX2_isName 32 = .ok (.istore_n 1, 1) := dk_60 (dk_at dksX2_isName_1 8 rfl rfl)
theorem dX2_isName_33 : decode cX2_isName 33 = .ok (.iload_n 2, 1) := dk_28 (dk_at dksX2_isName_1 9 rfl rfl)
theorem dX2_isName_34 : decode cX2_isName 34 = .ok (.bipush 27, 2) := dk_16 27 (dk_at dksX2_isName_1 10 rfl rfl)
theorem dX2_isName_36 : decode cX2_isName 36 = .ok (.idiv, 1) := dk_108 (dk_at dksX2_isName_1 12 rfl rfl)
theorem dX2_isName_37 : decode cX2_isName 37 = .ok (.istore_n 2, 1) := dk_61 (dk_at dksX2_isName_1 13 rfl rfl)
theorem dX2_isName_38 : decode cX2_isName 38 = .ok (.goto (-26), 3) := dk_167 255 230 (dk_at dksX2_isName_1 14 rfl rfl)
theorem dX2_isName_41 : decode cX2_isName 41 = .ok (.iload_n 1, 1) := dk_27 (dk_at dksX2_isName_1 17 rfl rfl)
theorem dX2_isName_42 : decode cX2_isName 42 = .ok (.ireturn, 1) := dk_172 (dk_at dksX2_isName_1 18 rfl rfl)
abbrev cX2_table : ByteArray := prog_25_method_105_code
def yX2_table : MethodName := ⟨RX2, "table", "(III)I"⟩
def dkwX2_table_3 : List UInt8 := [167, 0, 4, 3, 96, 54, 4, 132, 5, 1, 167, 255, 223, 21, 4, 172]
abbrev dktX2_table_3 : List UInt8 := dkwX2_table_3 ++ []
def dkwX2_table_2 : List UInt8 := [21, 5, 42, 182, 1, 101, 162, 0, 30, 21, 4, 42, 21, 5, 3, 182, 1, 104, 28, 160, 0, 7, 4]
abbrev dktX2_table_2 : List UInt8 := dkwX2_table_2 ++ dktX2_table_3
def dkwX2_table_1 : List UInt8 := [184, 0, 181, 154, 0, 5, 2, 172, 29, 154, 0, 9, 42, 28, 182, 2, 64, 172, 3, 54, 4, 3, 54, 5]
abbrev dktX2_table_1 : List UInt8 := dkwX2_table_1 ++ dktX2_table_2
def dkwX2_table_0 : List UInt8 := [42, 3, 181, 0, 169, 42, 27, 182, 1, 116, 153, 0, 20, 42, 28, 182, 1, 119, 153, 0, 12, 29, 3, 4]
abbrev dktX2_table_0 : List UInt8 := dkwX2_table_0 ++ dktX2_table_1
theorem dksX2_table_0 : cX2_table.data.toList.drop 0 = dktX2_table_0 := by decide +kernel
theorem dksX2_table_1 : cX2_table.data.toList.drop 24 = dktX2_table_1 := dk_seg dksX2_table_0 24 rfl rfl
theorem dksX2_table_2 : cX2_table.data.toList.drop 48 = dktX2_table_2 := dk_seg dksX2_table_1 24 rfl rfl
theorem dksX2_table_3 : cX2_table.data.toList.drop 71 = dktX2_table_3 := dk_seg dksX2_table_2 23 rfl rfl
theorem dX2_table_0 : decode cX2_table 0 = .ok (.aload_n 0, 1) := dk_42 (dk_at dksX2_table_0 0 rfl rfl)
theorem dX2_table_1 : decode cX2_table 1 = .ok (.iconst 0, 1) := dk_3 (dk_at dksX2_table_0 1 rfl rfl)
theorem dX2_table_2 : decode cX2_table 2 = .ok (.putfield 169, 3) := dk_181 0 169 (dk_at dksX2_table_0 2 rfl rfl)
theorem dX2_table_5 : decode cX2_table 5 = .ok (.aload_n 0, 1) := dk_42 (dk_at dksX2_table_0 5 rfl rfl)
theorem dX2_table_6 : decode cX2_table 6 = .ok (.iload_n 1, 1) := dk_27 (dk_at dksX2_table_0 6 rfl rfl)
theorem dX2_table_7 : decode cX2_table 7 = .ok (.invokevirtual 372, 3) := dk_182 1 116 (dk_at dksX2_table_0 7 rfl rfl)
theorem dX2_table_10 : decode cX2_table 10 = .ok (.ifCond .eq 20, 3) := dk_153 0 20 (dk_at dksX2_table_0 10 rfl rfl)
theorem dX2_table_13 : decode cX2_table 13 = .ok (.aload_n 0, 1) := dk_42 (dk_at dksX2_table_0 13 rfl rfl)
theorem dX2_table_14 : decode cX2_table 14 = .ok (.iload_n 2, 1) := dk_28 (dk_at dksX2_table_0 14 rfl rfl)
theorem dX2_table_15 : decode cX2_table 15 = .ok (.invokevirtual 375, 3) := dk_182 1 119 (dk_at dksX2_table_0 15 rfl rfl)
theorem dX2_table_18 : decode cX2_table 18 = .ok (.ifCond .eq 12, 3) := dk_153 0 12 (dk_at dksX2_table_0 18 rfl rfl)
theorem dX2_table_21 : decode cX2_table 21 = .ok (.iload_n 3, 1) := dk_29 (dk_at dksX2_table_0 21 rfl rfl)
theorem dX2_table_22 : decode cX2_table 22 = .ok (.iconst 0, 1) := dk_3 (dk_at dksX2_table_0 22 rfl rfl)
theorem dX2_table_23 : decode cX2_table 23 = .ok (.iconst 1, 1) := dk_4 (dk_at dksX2_table_0 23 rfl rfl)
theorem dX2_table_24 : decode cX2_table 24 = .ok (.invokestatic 181, 3) := dk_184 0 181 (dk_at dksX2_table_1 0 rfl rfl)
theorem dX2_table_27 : decode cX2_table 27 = .ok (.ifCond .ne 5, 3) := dk_154 0 5 (dk_at dksX2_table_1 3 rfl rfl)
theorem dX2_table_30 : decode cX2_table 30 = .ok (.iconst (-1), 1) := dk_2 (dk_at dksX2_table_1 6 rfl rfl)
theorem dX2_table_31 : decode cX2_table 31 = .ok (.ireturn, 1) := dk_172 (dk_at dksX2_table_1 7 rfl rfl)
theorem dX2_table_32 : decode cX2_table 32 = .ok (.iload_n 3, 1) := dk_29 (dk_at dksX2_table_1 8 rfl rfl)
theorem dX2_table_33 : decode cX2_table 33 = .ok (.ifCond .ne 9, 3) := dk_154 0 9 (dk_at dksX2_table_1 9 rfl rfl)
theorem dX2_table_36 : decode cX2_table 36 = .ok (.aload_n 0, 1) := dk_42 (dk_at dksX2_table_1 12 rfl rfl)
theorem dX2_table_37 : decode cX2_table 37 = .ok (.iload_n 2, 1) := dk_28 (dk_at dksX2_table_1 13 rfl rfl)
theorem dX2_table_38 : decode cX2_table 38 = .ok (.invokevirtual 576, 3) := dk_182 2 64 (dk_at dksX2_table_1 14 rfl rfl)
theorem dX2_table_41 : decode cX2_table 41 = .ok (.ireturn, 1) := dk_172 (dk_at dksX2_table_1 17 rfl rfl)
theorem dX2_table_42 : decode cX2_table 42 = .ok (.iconst 0, 1) := dk_3 (dk_at dksX2_table_1 18 rfl rfl)
theorem dX2_table_43 : decode cX2_table 43 = .ok (.istore 4, 2) := dk_54 4 (dk_at dksX2_table_1 19 rfl rfl)
theorem dX2_table_45 : decode cX2_table 45 = .ok (.iconst 0, 1) := dk_3 (dk_at dksX2_table_1 21 rfl rfl)
theorem dX2_table_46 : decode cX2_table 46 = .ok (.istore 5, 2) := dk_54 5 (dk_at dksX2_table_1 22 rfl rfl)
theorem dX2_table_48 : decode cX2_table 48 = .ok (.iload 5, 2) := dk_21 5 (dk_at dksX2_table_2 0 rfl rfl)
theorem dX2_table_50 : decode cX2_table 50 = .ok (.aload_n 0, 1) := dk_42 (dk_at dksX2_table_2 2 rfl rfl)
theorem dX2_table_51 : decode cX2_table 51 = .ok (.invokevirtual 357, 3) := dk_182 1 101 (dk_at dksX2_table_2 3 rfl rfl)
theorem dX2_table_54 : decode cX2_table 54 = .ok (.if_icmp .ge 30, 3) := dk_162 0 30 (dk_at dksX2_table_2 6 rfl rfl)
theorem dX2_table_57 : decode cX2_table 57 = .ok (.iload 4, 2) := dk_21 4 (dk_at dksX2_table_2 9 rfl rfl)
theorem dX2_table_59 : decode cX2_table 59 = .ok (.aload_n 0, 1) := dk_42 (dk_at dksX2_table_2 11 rfl rfl)
theorem dX2_table_60 : decode cX2_table 60 = .ok (.iload 5, 2) := dk_21 5 (dk_at dksX2_table_2 12 rfl rfl)
theorem dX2_table_62 : decode cX2_table 62 = .ok (.iconst 0, 1) := dk_3 (dk_at dksX2_table_2 14 rfl rfl)
theorem dX2_table_63 : decode cX2_table 63 = .ok (.invokevirtual 360, 3) := dk_182 1 104 (dk_at dksX2_table_2 15 rfl rfl)
theorem dX2_table_66 : decode cX2_table 66 = .ok (.iload_n 2, 1) := dk_28 (dk_at dksX2_table_2 18 rfl rfl)
theorem dX2_table_67 : decode cX2_table 67 = .ok (.if_icmp .ne 7, 3) := dk_160 0 7 (dk_at dksX2_table_2 19 rfl rfl)
theorem dX2_table_70 : decode cX2_table 70 = .ok (.iconst 1, 1) := dk_4 (dk_at dksX2_table_2 22 rfl rfl)
theorem dX2_table_71 : decode cX2_table 71 = .ok (.goto 4, 3) := dk_167 0 4 (dk_at dksX2_table_3 0 rfl rfl)
theorem dX2_table_74 : decode cX2_table 74 = .ok (.iconst 0, 1) := dk_3 (dk_at dksX2_table_3 3 rfl rfl)
theorem dX2_table_75 : decode cX2_table 75 = .ok (.iadd, 1) := dk_96 (dk_at dksX2_table_3 4 rfl rfl)
theorem dX2_table_76 : decode cX2_table 76 = .ok (.istore 4, 2) := dk_54 4 (dk_at dksX2_table_3 5 rfl rfl)
theorem dX2_table_78 : decode cX2_table 78 = .ok (.iinc 5 1, 3) := dk_132 5 1 (dk_at dksX2_table_3 7 rfl rfl)
theorem dX2_table_81 : decode cX2_table 81 = .ok (.goto (-33), 3) := dk_167 255 223 (dk_at dksX2_table_3 10 rfl rfl)
theorem dX2_table_84 : decode cX2_table 84 = .ok (.iload 4, 2) := dk_21 4 (dk_at dksX2_table_3 13 rfl rfl)
theorem dX2_table_86 : decode cX2_table 86 = .ok (.ireturn, 1) := dk_172 (dk_at dksX2_table_3 15 rfl rfl)
abbrev cX2_rowsAt : ByteArray := prog_25_method_104_code
def yX2_rowsAt : MethodName := ⟨RX2, "rowsAt", "(I)I"⟩
def dkwX2_rowsAt_5 : List UInt8 := [108, 54, 4, 167, 255, 167, 132, 3, 1, 167, 255, 131, 28, 172]
abbrev dktX2_rowsAt_5 : List UInt8 := dkwX2_rowsAt_5 ++ []
def dkwX2_rowsAt_4 : List UInt8 := [46, 167, 0, 5, 21, 4, 79, 28, 21, 5, 153, 0, 7, 3, 167, 0, 4, 4, 96, 61, 21, 4, 16, 27]
abbrev dktX2_rowsAt_4 : List UInt8 := dkwX2_rowsAt_4 ++ dktX2_rowsAt_5
def dkwX2_rowsAt_3 : List UInt8 := [3, 54, 5, 132, 6, 1, 167, 255, 223, 42, 180, 0, 153, 28, 21, 5, 153, 0, 12, 42, 180, 0, 153, 28]
abbrev dktX2_rowsAt_3 : List UInt8 := dkwX2_rowsAt_3 ++ dktX2_rowsAt_4
def dkwX2_rowsAt_2 : List UInt8 := [162, 0, 33, 21, 5, 154, 0, 15, 42, 180, 0, 153, 21, 6, 46, 21, 4, 160, 0, 7, 4, 167, 0, 4]
abbrev dktX2_rowsAt_2 : List UInt8 := dkwX2_rowsAt_2 ++ dktX2_rowsAt_3
def dkwX2_rowsAt_1 : List UInt8 := [4, 182, 1, 104, 167, 0, 4, 3, 54, 4, 21, 4, 158, 0, 90, 3, 54, 5, 3, 54, 6, 21, 6, 28]
abbrev dktX2_rowsAt_1 : List UInt8 := dkwX2_rowsAt_1 ++ dktX2_rowsAt_2
def dkwX2_rowsAt_0 : List UInt8 := [3, 61, 3, 62, 29, 42, 182, 1, 101, 162, 0, 123, 42, 29, 3, 182, 1, 104, 27, 160, 0, 12, 42, 29]
abbrev dktX2_rowsAt_0 : List UInt8 := dkwX2_rowsAt_0 ++ dktX2_rowsAt_1
theorem dksX2_rowsAt_0 : cX2_rowsAt.data.toList.drop 0 = dktX2_rowsAt_0 := by decide +kernel
theorem dksX2_rowsAt_1 : cX2_rowsAt.data.toList.drop 24 = dktX2_rowsAt_1 := dk_seg dksX2_rowsAt_0 24 rfl rfl
theorem dksX2_rowsAt_2 : cX2_rowsAt.data.toList.drop 48 = dktX2_rowsAt_2 := dk_seg dksX2_rowsAt_1 24 rfl rfl
theorem dksX2_rowsAt_3 : cX2_rowsAt.data.toList.drop 72 = dktX2_rowsAt_3 := dk_seg dksX2_rowsAt_2 24 rfl rfl
theorem dksX2_rowsAt_4 : cX2_rowsAt.data.toList.drop 96 = dktX2_rowsAt_4 := dk_seg dksX2_rowsAt_3 24 rfl rfl
theorem dksX2_rowsAt_5 : cX2_rowsAt.data.toList.drop 120 = dktX2_rowsAt_5 := dk_seg dksX2_rowsAt_4 24 rfl rfl
theorem dX2_rowsAt_0 : decode cX2_rowsAt 0 = .ok (.iconst 0, 1) := dk_3 (dk_at dksX2_rowsAt_0 0 rfl rfl)
theorem dX2_rowsAt_1 : decode cX2_rowsAt 1 = .ok (.istore_n 2, 1) := dk_61 (dk_at dksX2_rowsAt_0 1 rfl rfl)
theorem dX2_rowsAt_2 : decode cX2_rowsAt 2 = .ok (.iconst 0, 1) := dk_3 (dk_at dksX2_rowsAt_0 2 rfl rfl)
theorem dX2_rowsAt_3 : decode cX2_rowsAt 3 = .ok (.istore_n 3, 1) := dk_62 (dk_at dksX2_rowsAt_0 3 rfl rfl)
theorem dX2_rowsAt_4 : decode cX2_rowsAt 4 = .ok (.iload_n 3, 1) := dk_29 (dk_at dksX2_rowsAt_0 4 rfl rfl)
theorem dX2_rowsAt_5 : decode cX2_rowsAt 5 = .ok (.aload_n 0, 1) := dk_42 (dk_at dksX2_rowsAt_0 5 rfl rfl)
theorem dX2_rowsAt_6 : decode cX2_rowsAt 6 = .ok (.invokevirtual 357, 3) := dk_182 1 101 (dk_at dksX2_rowsAt_0 6 rfl rfl)
theorem dX2_rowsAt_9 : decode cX2_rowsAt 9 = .ok (.if_icmp .ge 123, 3) := dk_162 0 123 (dk_at dksX2_rowsAt_0 9 rfl rfl)
theorem dX2_rowsAt_12 : decode cX2_rowsAt 12 = .ok (.aload_n 0, 1) := dk_42 (dk_at dksX2_rowsAt_0 12 rfl rfl)
theorem dX2_rowsAt_13 : decode cX2_rowsAt 13 = .ok (.iload_n 3, 1) := dk_29 (dk_at dksX2_rowsAt_0 13 rfl rfl)
theorem dX2_rowsAt_14 : decode cX2_rowsAt 14 = .ok (.iconst 0, 1) := dk_3 (dk_at dksX2_rowsAt_0 14 rfl rfl)
theorem dX2_rowsAt_15 : decode cX2_rowsAt 15 = .ok (.invokevirtual 360, 3) := dk_182 1 104 (dk_at dksX2_rowsAt_0 15 rfl rfl)
theorem dX2_rowsAt_18 : decode cX2_rowsAt 18 = .ok (.iload_n 1, 1) := dk_27 (dk_at dksX2_rowsAt_0 18 rfl rfl)
theorem dX2_rowsAt_19 : decode cX2_rowsAt 19 = .ok (.if_icmp .ne 12, 3) := dk_160 0 12 (dk_at dksX2_rowsAt_0 19 rfl rfl)
theorem dX2_rowsAt_22 : decode cX2_rowsAt 22 = .ok (.aload_n 0, 1) := dk_42 (dk_at dksX2_rowsAt_0 22 rfl rfl)
theorem dX2_rowsAt_23 : decode cX2_rowsAt 23 = .ok (.iload_n 3, 1) := dk_29 (dk_at dksX2_rowsAt_0 23 rfl rfl)
theorem dX2_rowsAt_24 : decode cX2_rowsAt 24 = .ok (.iconst 1, 1) := dk_4 (dk_at dksX2_rowsAt_1 0 rfl rfl)
theorem dX2_rowsAt_25 : decode cX2_rowsAt 25 = .ok (.invokevirtual 360, 3) := dk_182 1 104 (dk_at dksX2_rowsAt_1 1 rfl rfl)
theorem dX2_rowsAt_28 : decode cX2_rowsAt 28 = .ok (.goto 4, 3) := dk_167 0 4 (dk_at dksX2_rowsAt_1 4 rfl rfl)
theorem dX2_rowsAt_31 : decode cX2_rowsAt 31 = .ok (.iconst 0, 1) := dk_3 (dk_at dksX2_rowsAt_1 7 rfl rfl)
theorem dX2_rowsAt_32 : decode cX2_rowsAt 32 = .ok (.istore 4, 2) := dk_54 4 (dk_at dksX2_rowsAt_1 8 rfl rfl)
theorem dX2_rowsAt_34 : decode cX2_rowsAt 34 = .ok (.iload 4, 2) := dk_21 4 (dk_at dksX2_rowsAt_1 10 rfl rfl)
theorem dX2_rowsAt_36 : decode cX2_rowsAt 36 = .ok (.ifCond .le 90, 3) := dk_158 0 90 (dk_at dksX2_rowsAt_1 12 rfl rfl)
theorem dX2_rowsAt_39 : decode cX2_rowsAt 39 = .ok (.iconst 0, 1) := dk_3 (dk_at dksX2_rowsAt_1 15 rfl rfl)
theorem dX2_rowsAt_40 : decode cX2_rowsAt 40 = .ok (.istore 5, 2) := dk_54 5 (dk_at dksX2_rowsAt_1 16 rfl rfl)
theorem dX2_rowsAt_42 : decode cX2_rowsAt 42 = .ok (.iconst 0, 1) := dk_3 (dk_at dksX2_rowsAt_1 18 rfl rfl)
theorem dX2_rowsAt_43 : decode cX2_rowsAt 43 = .ok (.istore 6, 2) := dk_54 6 (dk_at dksX2_rowsAt_1 19 rfl rfl)
theorem dX2_rowsAt_45 : decode cX2_rowsAt 45 = .ok (.iload 6, 2) := dk_21 6 (dk_at dksX2_rowsAt_1 21 rfl rfl)
theorem dX2_rowsAt_47 : decode cX2_rowsAt 47 = .ok (.iload_n 2, 1) := dk_28 (dk_at dksX2_rowsAt_1 23 rfl rfl)
theorem dX2_rowsAt_48 : decode cX2_rowsAt 48 = .ok (.if_icmp .ge 33, 3) := dk_162 0 33 (dk_at dksX2_rowsAt_2 0 rfl rfl)
theorem dX2_rowsAt_51 : decode cX2_rowsAt 51 = .ok (.iload 5, 2) := dk_21 5 (dk_at dksX2_rowsAt_2 3 rfl rfl)
theorem dX2_rowsAt_53 : decode cX2_rowsAt 53 = .ok (.ifCond .ne 15, 3) := dk_154 0 15 (dk_at dksX2_rowsAt_2 5 rfl rfl)
theorem dX2_rowsAt_56 : decode cX2_rowsAt 56 = .ok (.aload_n 0, 1) := dk_42 (dk_at dksX2_rowsAt_2 8 rfl rfl)
theorem dX2_rowsAt_57 : decode cX2_rowsAt 57 = .ok (.getfield 153, 3) := dk_180 0 153 (dk_at dksX2_rowsAt_2 9 rfl rfl)
theorem dX2_rowsAt_60 : decode cX2_rowsAt 60 = .ok (.iload 6, 2) := dk_21 6 (dk_at dksX2_rowsAt_2 12 rfl rfl)
theorem dX2_rowsAt_62 : decode cX2_rowsAt 62 = .ok (.iaload, 1) := dk_46 (dk_at dksX2_rowsAt_2 14 rfl rfl)
theorem dX2_rowsAt_63 : decode cX2_rowsAt 63 = .ok (.iload 4, 2) := dk_21 4 (dk_at dksX2_rowsAt_2 15 rfl rfl)
theorem dX2_rowsAt_65 : decode cX2_rowsAt 65 = .ok (.if_icmp .ne 7, 3) := dk_160 0 7 (dk_at dksX2_rowsAt_2 17 rfl rfl)
theorem dX2_rowsAt_68 : decode cX2_rowsAt 68 = .ok (.iconst 1, 1) := dk_4 (dk_at dksX2_rowsAt_2 20 rfl rfl)
theorem dX2_rowsAt_69 : decode cX2_rowsAt 69 = .ok (.goto 4, 3) := dk_167 0 4 (dk_at dksX2_rowsAt_2 21 rfl rfl)
theorem dX2_rowsAt_72 : decode cX2_rowsAt 72 = .ok (.iconst 0, 1) := dk_3 (dk_at dksX2_rowsAt_3 0 rfl rfl)
theorem dX2_rowsAt_73 : decode cX2_rowsAt 73 = .ok (.istore 5, 2) := dk_54 5 (dk_at dksX2_rowsAt_3 1 rfl rfl)
theorem dX2_rowsAt_75 : decode cX2_rowsAt 75 = .ok (.iinc 6 1, 3) := dk_132 6 1 (dk_at dksX2_rowsAt_3 3 rfl rfl)
theorem dX2_rowsAt_78 : decode cX2_rowsAt 78 = .ok (.goto (-33), 3) := dk_167 255 223 (dk_at dksX2_rowsAt_3 6 rfl rfl)
theorem dX2_rowsAt_81 : decode cX2_rowsAt 81 = .ok (.aload_n 0, 1) := dk_42 (dk_at dksX2_rowsAt_3 9 rfl rfl)
theorem dX2_rowsAt_82 : decode cX2_rowsAt 82 = .ok (.getfield 153, 3) := dk_180 0 153 (dk_at dksX2_rowsAt_3 10 rfl rfl)
theorem dX2_rowsAt_85 : decode cX2_rowsAt 85 = .ok (.iload_n 2, 1) := dk_28 (dk_at dksX2_rowsAt_3 13 rfl rfl)
theorem dX2_rowsAt_86 : decode cX2_rowsAt 86 = .ok (.iload 5, 2) := dk_21 5 (dk_at dksX2_rowsAt_3 14 rfl rfl)
theorem dX2_rowsAt_88 : decode cX2_rowsAt 88 = .ok (.ifCond .eq 12, 3) := dk_153 0 12 (dk_at dksX2_rowsAt_3 16 rfl rfl)
theorem dX2_rowsAt_91 : decode cX2_rowsAt 91 = .ok (.aload_n 0, 1) := dk_42 (dk_at dksX2_rowsAt_3 19 rfl rfl)
theorem dX2_rowsAt_92 : decode cX2_rowsAt 92 = .ok (.getfield 153, 3) := dk_180 0 153 (dk_at dksX2_rowsAt_3 20 rfl rfl)
theorem dX2_rowsAt_95 : decode cX2_rowsAt 95 = .ok (.iload_n 2, 1) := dk_28 (dk_at dksX2_rowsAt_3 23 rfl rfl)
theorem dX2_rowsAt_96 : decode cX2_rowsAt 96 = .ok (.iaload, 1) := dk_46 (dk_at dksX2_rowsAt_4 0 rfl rfl)
theorem dX2_rowsAt_97 : decode cX2_rowsAt 97 = .ok (.goto 5, 3) := dk_167 0 5 (dk_at dksX2_rowsAt_4 1 rfl rfl)
theorem dX2_rowsAt_100 : decode cX2_rowsAt 100 = .ok (.iload 4, 2) := dk_21 4 (dk_at dksX2_rowsAt_4 4 rfl rfl)
theorem dX2_rowsAt_102 : decode cX2_rowsAt 102 = .ok (.iastore, 1) := dk_79 (dk_at dksX2_rowsAt_4 6 rfl rfl)
theorem dX2_rowsAt_103 : decode cX2_rowsAt 103 = .ok (.iload_n 2, 1) := dk_28 (dk_at dksX2_rowsAt_4 7 rfl rfl)
theorem dX2_rowsAt_104 : decode cX2_rowsAt 104 = .ok (.iload 5, 2) := dk_21 5 (dk_at dksX2_rowsAt_4 8 rfl rfl)
theorem dX2_rowsAt_106 : decode cX2_rowsAt 106 = .ok (.ifCond .eq 7, 3) := dk_153 0 7 (dk_at dksX2_rowsAt_4 10 rfl rfl)
theorem dX2_rowsAt_109 : decode cX2_rowsAt 109 = .ok (.iconst 0, 1) := dk_3 (dk_at dksX2_rowsAt_4 13 rfl rfl)
theorem dX2_rowsAt_110 : decode cX2_rowsAt 110 = .ok (.goto 4, 3) := dk_167 0 4 (dk_at dksX2_rowsAt_4 14 rfl rfl)
theorem dX2_rowsAt_113 : decode cX2_rowsAt 113 = .ok (.iconst 1, 1) := dk_4 (dk_at dksX2_rowsAt_4 17 rfl rfl)
theorem dX2_rowsAt_114 : decode cX2_rowsAt 114 = .ok (.iadd, 1) := dk_96 (dk_at dksX2_rowsAt_4 18 rfl rfl)
theorem dX2_rowsAt_115 : decode cX2_rowsAt 115 = .ok (.istore_n 2, 1) := dk_61 (dk_at dksX2_rowsAt_4 19 rfl rfl)
theorem dX2_rowsAt_116 : decode cX2_rowsAt 116 = .ok (.iload 4, 2) := dk_21 4 (dk_at dksX2_rowsAt_4 20 rfl rfl)
theorem dX2_rowsAt_118 : decode cX2_rowsAt 118 = .ok (.bipush 27, 2) := dk_16 27 (dk_at dksX2_rowsAt_4 22 rfl rfl)
theorem dX2_rowsAt_120 : decode cX2_rowsAt 120 = .ok (.idiv, 1) := dk_108 (dk_at dksX2_rowsAt_5 0 rfl rfl)
theorem dX2_rowsAt_121 : decode cX2_rowsAt 121 = .ok (.istore 4, 2) := dk_54 4 (dk_at dksX2_rowsAt_5 1 rfl rfl)
theorem dX2_rowsAt_123 : decode cX2_rowsAt 123 = .ok (.goto (-89), 3) := dk_167 255 167 (dk_at dksX2_rowsAt_5 3 rfl rfl)
theorem dX2_rowsAt_126 : decode cX2_rowsAt 126 = .ok (.iinc 3 1, 3) := dk_132 3 1 (dk_at dksX2_rowsAt_5 6 rfl rfl)
theorem dX2_rowsAt_129 : decode cX2_rowsAt 129 = .ok (.goto (-125), 3) := dk_167 255 131 (dk_at dksX2_rowsAt_5 9 rfl rfl)
theorem dX2_rowsAt_132 : decode cX2_rowsAt 132 = .ok (.iload_n 2, 1) := dk_28 (dk_at dksX2_rowsAt_5 12 rfl rfl)
theorem dX2_rowsAt_133 : decode cX2_rowsAt 133 = .ok (.ireturn, 1) := dk_172 (dk_at dksX2_rowsAt_5 13 rfl rfl)
abbrev cX2_ways : ByteArray := prog_25_method_106_code
def yX2_ways : MethodName := ⟨RX2, "ways", "(IIIZ)I"⟩
def dkwX2_ways_5 : List UInt8 := [42, 21, 7, 5, 182, 1, 104, 120, 167, 0, 4, 3, 128, 54, 6, 132, 7, 1, 167, 255, 181, 21, 6, 172]
abbrev dktX2_ways_5 : List UInt8 := dkwX2_ways_5 ++ []
def dkwX2_ways_4 : List UInt8 := [182, 1, 104, 182, 1, 152, 153, 0, 7, 4, 167, 0, 4, 3, 54, 8, 21, 6, 21, 8, 153, 0, 15, 4]
abbrev dktX2_ways_4 : List UInt8 := dkwX2_ways_4 ++ dktX2_ways_5
def dkwX2_ways_3 : List UInt8 := [158, 0, 35, 42, 21, 7, 28, 29, 21, 5, 182, 1, 190, 153, 0, 22, 42, 28, 42, 21, 7, 5]
abbrev dktX2_ways_3 : List UInt8 := dkwX2_ways_3 ++ dktX2_ways_4
def dkwX2_ways_2 : List UInt8 := [153, 0, 6, 21, 5, 172, 3, 54, 6, 3, 54, 7, 21, 7, 42, 182, 1, 101, 162, 0, 72, 21, 5]
abbrev dktX2_ways_2 : List UInt8 := dkwX2_ways_2 ++ dktX2_ways_3
def dkwX2_ways_1 : List UInt8 := [184, 2, 61, 154, 0, 5, 2, 172, 42, 2, 182, 2, 37, 42, 28, 29, 182, 1, 186, 54, 5, 21, 4]
abbrev dktX2_ways_1 : List UInt8 := dkwX2_ways_1 ++ dktX2_ways_2
def dkwX2_ways_0 : List UInt8 := [42, 3, 181, 0, 169, 42, 27, 182, 1, 116, 153, 0, 18, 42, 28, 182, 1, 119, 153, 0, 10, 29]
abbrev dktX2_ways_0 : List UInt8 := dkwX2_ways_0 ++ dktX2_ways_1
theorem dksX2_ways_0 : cX2_ways.data.toList.drop 0 = dktX2_ways_0 := by decide +kernel
theorem dksX2_ways_1 : cX2_ways.data.toList.drop 22 = dktX2_ways_1 := dk_seg dksX2_ways_0 22 rfl rfl
theorem dksX2_ways_2 : cX2_ways.data.toList.drop 45 = dktX2_ways_2 := dk_seg dksX2_ways_1 23 rfl rfl
theorem dksX2_ways_3 : cX2_ways.data.toList.drop 68 = dktX2_ways_3 := dk_seg dksX2_ways_2 23 rfl rfl
theorem dksX2_ways_4 : cX2_ways.data.toList.drop 90 = dktX2_ways_4 := dk_seg dksX2_ways_3 22 rfl rfl
theorem dksX2_ways_5 : cX2_ways.data.toList.drop 114 = dktX2_ways_5 := dk_seg dksX2_ways_4 24 rfl rfl
theorem dX2_ways_0 : decode cX2_ways 0 = .ok (.aload_n 0, 1) := dk_42 (dk_at dksX2_ways_0 0 rfl rfl)
theorem dX2_ways_1 : decode cX2_ways 1 = .ok (.iconst 0, 1) := dk_3 (dk_at dksX2_ways_0 1 rfl rfl)
theorem dX2_ways_2 : decode cX2_ways 2 = .ok (.putfield 169, 3) := dk_181 0 169 (dk_at dksX2_ways_0 2 rfl rfl)
theorem dX2_ways_5 : decode cX2_ways 5 = .ok (.aload_n 0, 1) := dk_42 (dk_at dksX2_ways_0 5 rfl rfl)
theorem dX2_ways_6 : decode cX2_ways 6 = .ok (.iload_n 1, 1) := dk_27 (dk_at dksX2_ways_0 6 rfl rfl)
theorem dX2_ways_7 : decode cX2_ways 7 = .ok (.invokevirtual 372, 3) := dk_182 1 116 (dk_at dksX2_ways_0 7 rfl rfl)
theorem dX2_ways_10 : decode cX2_ways 10 = .ok (.ifCond .eq 18, 3) := dk_153 0 18 (dk_at dksX2_ways_0 10 rfl rfl)
theorem dX2_ways_13 : decode cX2_ways 13 = .ok (.aload_n 0, 1) := dk_42 (dk_at dksX2_ways_0 13 rfl rfl)
theorem dX2_ways_14 : decode cX2_ways 14 = .ok (.iload_n 2, 1) := dk_28 (dk_at dksX2_ways_0 14 rfl rfl)
theorem dX2_ways_15 : decode cX2_ways 15 = .ok (.invokevirtual 375, 3) := dk_182 1 119 (dk_at dksX2_ways_0 15 rfl rfl)
theorem dX2_ways_18 : decode cX2_ways 18 = .ok (.ifCond .eq 10, 3) := dk_153 0 10 (dk_at dksX2_ways_0 18 rfl rfl)
theorem dX2_ways_21 : decode cX2_ways 21 = .ok (.iload_n 3, 1) := dk_29 (dk_at dksX2_ways_0 21 rfl rfl)
theorem dX2_ways_22 : decode cX2_ways 22 = .ok (.invokestatic 573, 3) := dk_184 2 61 (dk_at dksX2_ways_1 0 rfl rfl)
theorem dX2_ways_25 : decode cX2_ways 25 = .ok (.ifCond .ne 5, 3) := dk_154 0 5 (dk_at dksX2_ways_1 3 rfl rfl)
theorem dX2_ways_28 : decode cX2_ways 28 = .ok (.iconst (-1), 1) := dk_2 (dk_at dksX2_ways_1 6 rfl rfl)
theorem dX2_ways_29 : decode cX2_ways 29 = .ok (.ireturn, 1) := dk_172 (dk_at dksX2_ways_1 7 rfl rfl)
theorem dX2_ways_30 : decode cX2_ways 30 = .ok (.aload_n 0, 1) := dk_42 (dk_at dksX2_ways_1 8 rfl rfl)
theorem dX2_ways_31 : decode cX2_ways 31 = .ok (.iconst (-1), 1) := dk_2 (dk_at dksX2_ways_1 9 rfl rfl)
theorem dX2_ways_32 : decode cX2_ways 32 = .ok (.invokevirtual 549, 3) := dk_182 2 37 (dk_at dksX2_ways_1 10 rfl rfl)
theorem dX2_ways_35 : decode cX2_ways 35 = .ok (.aload_n 0, 1) := dk_42 (dk_at dksX2_ways_1 13 rfl rfl)
theorem dX2_ways_36 : decode cX2_ways 36 = .ok (.iload_n 2, 1) := dk_28 (dk_at dksX2_ways_1 14 rfl rfl)
theorem dX2_ways_37 : decode cX2_ways 37 = .ok (.iload_n 3, 1) := dk_29 (dk_at dksX2_ways_1 15 rfl rfl)
theorem dX2_ways_38 : decode cX2_ways 38 = .ok (.invokevirtual 442, 3) := dk_182 1 186 (dk_at dksX2_ways_1 16 rfl rfl)
theorem dX2_ways_41 : decode cX2_ways 41 = .ok (.istore 5, 2) := dk_54 5 (dk_at dksX2_ways_1 19 rfl rfl)
theorem dX2_ways_43 : decode cX2_ways 43 = .ok (.iload 4, 2) := dk_21 4 (dk_at dksX2_ways_1 21 rfl rfl)
theorem dX2_ways_45 : decode cX2_ways 45 = .ok (.ifCond .eq 6, 3) := dk_153 0 6 (dk_at dksX2_ways_2 0 rfl rfl)
theorem dX2_ways_48 : decode cX2_ways 48 = .ok (.iload 5, 2) := dk_21 5 (dk_at dksX2_ways_2 3 rfl rfl)
theorem dX2_ways_50 : decode cX2_ways 50 = .ok (.ireturn, 1) := dk_172 (dk_at dksX2_ways_2 5 rfl rfl)
theorem dX2_ways_51 : decode cX2_ways 51 = .ok (.iconst 0, 1) := dk_3 (dk_at dksX2_ways_2 6 rfl rfl)
theorem dX2_ways_52 : decode cX2_ways 52 = .ok (.istore 6, 2) := dk_54 6 (dk_at dksX2_ways_2 7 rfl rfl)
theorem dX2_ways_54 : decode cX2_ways 54 = .ok (.iconst 0, 1) := dk_3 (dk_at dksX2_ways_2 9 rfl rfl)
theorem dX2_ways_55 : decode cX2_ways 55 = .ok (.istore 7, 2) := dk_54 7 (dk_at dksX2_ways_2 10 rfl rfl)
theorem dX2_ways_57 : decode cX2_ways 57 = .ok (.iload 7, 2) := dk_21 7 (dk_at dksX2_ways_2 12 rfl rfl)
theorem dX2_ways_59 : decode cX2_ways 59 = .ok (.aload_n 0, 1) := dk_42 (dk_at dksX2_ways_2 14 rfl rfl)
theorem dX2_ways_60 : decode cX2_ways 60 = .ok (.invokevirtual 357, 3) := dk_182 1 101 (dk_at dksX2_ways_2 15 rfl rfl)
theorem dX2_ways_63 : decode cX2_ways 63 = .ok (.if_icmp .ge 72, 3) := dk_162 0 72 (dk_at dksX2_ways_2 18 rfl rfl)
theorem dX2_ways_66 : decode cX2_ways 66 = .ok (.iload 5, 2) := dk_21 5 (dk_at dksX2_ways_2 21 rfl rfl)
theorem dX2_ways_68 : decode cX2_ways 68 = .ok (.ifCond .le 35, 3) := dk_158 0 35 (dk_at dksX2_ways_3 0 rfl rfl)
theorem dX2_ways_71 : decode cX2_ways 71 = .ok (.aload_n 0, 1) := dk_42 (dk_at dksX2_ways_3 3 rfl rfl)
theorem dX2_ways_72 : decode cX2_ways 72 = .ok (.iload 7, 2) := dk_21 7 (dk_at dksX2_ways_3 4 rfl rfl)
theorem dX2_ways_74 : decode cX2_ways 74 = .ok (.iload_n 2, 1) := dk_28 (dk_at dksX2_ways_3 6 rfl rfl)
theorem dX2_ways_75 : decode cX2_ways 75 = .ok (.iload_n 3, 1) := dk_29 (dk_at dksX2_ways_3 7 rfl rfl)
theorem dX2_ways_76 : decode cX2_ways 76 = .ok (.iload 5, 2) := dk_21 5 (dk_at dksX2_ways_3 8 rfl rfl)
theorem dX2_ways_78 : decode cX2_ways 78 = .ok (.invokevirtual 446, 3) := dk_182 1 190 (dk_at dksX2_ways_3 10 rfl rfl)
theorem dX2_ways_81 : decode cX2_ways 81 = .ok (.ifCond .eq 22, 3) := dk_153 0 22 (dk_at dksX2_ways_3 13 rfl rfl)
theorem dX2_ways_84 : decode cX2_ways 84 = .ok (.aload_n 0, 1) := dk_42 (dk_at dksX2_ways_3 16 rfl rfl)
theorem dX2_ways_85 : decode cX2_ways 85 = .ok (.iload_n 2, 1) := dk_28 (dk_at dksX2_ways_3 17 rfl rfl)
theorem dX2_ways_86 : decode cX2_ways 86 = .ok (.aload_n 0, 1) := dk_42 (dk_at dksX2_ways_3 18 rfl rfl)
theorem dX2_ways_87 : decode cX2_ways 87 = .ok (.iload 7, 2) := dk_21 7 (dk_at dksX2_ways_3 19 rfl rfl)
theorem dX2_ways_89 : decode cX2_ways 89 = .ok (.iconst 2, 1) := dk_5 (dk_at dksX2_ways_3 21 rfl rfl)
theorem dX2_ways_90 : decode cX2_ways 90 = .ok (.invokevirtual 360, 3) := dk_182 1 104 (dk_at dksX2_ways_4 0 rfl rfl)
theorem dX2_ways_93 : decode cX2_ways 93 = .ok (.invokevirtual 408, 3) := dk_182 1 152 (dk_at dksX2_ways_4 3 rfl rfl)
theorem dX2_ways_96 : decode cX2_ways 96 = .ok (.ifCond .eq 7, 3) := dk_153 0 7 (dk_at dksX2_ways_4 6 rfl rfl)
theorem dX2_ways_99 : decode cX2_ways 99 = .ok (.iconst 1, 1) := dk_4 (dk_at dksX2_ways_4 9 rfl rfl)
theorem dX2_ways_100 : decode cX2_ways 100 = .ok (.goto 4, 3) := dk_167 0 4 (dk_at dksX2_ways_4 10 rfl rfl)
theorem dX2_ways_103 : decode cX2_ways 103 = .ok (.iconst 0, 1) := dk_3 (dk_at dksX2_ways_4 13 rfl rfl)
theorem dX2_ways_104 : decode cX2_ways 104 = .ok (.istore 8, 2) := dk_54 8 (dk_at dksX2_ways_4 14 rfl rfl)
theorem dX2_ways_106 : decode cX2_ways 106 = .ok (.iload 6, 2) := dk_21 6 (dk_at dksX2_ways_4 16 rfl rfl)
theorem dX2_ways_108 : decode cX2_ways 108 = .ok (.iload 8, 2) := dk_21 8 (dk_at dksX2_ways_4 18 rfl rfl)
theorem dX2_ways_110 : decode cX2_ways 110 = .ok (.ifCond .eq 15, 3) := dk_153 0 15 (dk_at dksX2_ways_4 20 rfl rfl)
theorem dX2_ways_113 : decode cX2_ways 113 = .ok (.iconst 1, 1) := dk_4 (dk_at dksX2_ways_4 23 rfl rfl)
theorem dX2_ways_114 : decode cX2_ways 114 = .ok (.aload_n 0, 1) := dk_42 (dk_at dksX2_ways_5 0 rfl rfl)
theorem dX2_ways_115 : decode cX2_ways 115 = .ok (.iload 7, 2) := dk_21 7 (dk_at dksX2_ways_5 1 rfl rfl)
theorem dX2_ways_117 : decode cX2_ways 117 = .ok (.iconst 2, 1) := dk_5 (dk_at dksX2_ways_5 3 rfl rfl)
theorem dX2_ways_118 : decode cX2_ways 118 = .ok (.invokevirtual 360, 3) := dk_182 1 104 (dk_at dksX2_ways_5 4 rfl rfl)
theorem dX2_ways_121 : decode cX2_ways 121 = .ok (.ishl, 1) := dk_120 (dk_at dksX2_ways_5 7 rfl rfl)
theorem dX2_ways_122 : decode cX2_ways 122 = .ok (.goto 4, 3) := dk_167 0 4 (dk_at dksX2_ways_5 8 rfl rfl)
theorem dX2_ways_125 : decode cX2_ways 125 = .ok (.iconst 0, 1) := dk_3 (dk_at dksX2_ways_5 11 rfl rfl)
theorem dX2_ways_126 : decode cX2_ways 126 = .ok (.ior, 1) := dk_128 (dk_at dksX2_ways_5 12 rfl rfl)
theorem dX2_ways_127 : decode cX2_ways 127 = .ok (.istore 6, 2) := dk_54 6 (dk_at dksX2_ways_5 13 rfl rfl)
theorem dX2_ways_129 : decode cX2_ways 129 = .ok (.iinc 7 1, 3) := dk_132 7 1 (dk_at dksX2_ways_5 15 rfl rfl)
theorem dX2_ways_132 : decode cX2_ways 132 = .ok (.goto (-75), 3) := dk_167 255 181 (dk_at dksX2_ways_5 18 rfl rfl)
theorem dX2_ways_135 : decode cX2_ways 135 = .ok (.iload 6, 2) := dk_21 6 (dk_at dksX2_ways_5 21 rfl rfl)
theorem dX2_ways_137 : decode cX2_ways 137 = .ok (.ireturn, 1) := dk_172 (dk_at dksX2_ways_5 23 rfl rfl)
abbrev cX2_trail : ByteArray := prog_25_method_108_code
def yX2_trail : MethodName := ⟨RX2, "trail", "(IIII)I"⟩
def dkwX2_trail_4 : List UInt8 := [46, 167, 0, 4, 2, 172]
abbrev dktX2_trail_4 : List UInt8 := dkwX2_trail_4 ++ []
def dkwX2_trail_3 : List UInt8 := [21, 5, 172, 21, 4, 3, 42, 180, 2, 67, 4, 100, 184, 0, 181, 153, 0, 13, 42, 180, 0, 156, 21, 4]
abbrev dktX2_trail_3 : List UInt8 := dkwX2_trail_3 ++ dktX2_trail_4
def dkwX2_trail_2 : List UInt8 := [159, 0, 10, 21, 4, 16, 20, 160, 0, 19, 21, 4, 2, 160, 0, 10, 42, 180, 2, 67, 167, 0, 5]
abbrev dktX2_trail_2 : List UInt8 := dkwX2_trail_2 ++ dktX2_trail_3
def dkwX2_trail_1 : List UInt8 := [184, 2, 61, 154, 0, 5, 2, 172, 42, 2, 182, 2, 37, 42, 28, 29, 182, 2, 70, 54, 5, 21, 4, 2]
abbrev dktX2_trail_1 : List UInt8 := dkwX2_trail_1 ++ dktX2_trail_2
def dkwX2_trail_0 : List UInt8 := [42, 3, 181, 0, 169, 42, 27, 182, 1, 116, 153, 0, 18, 42, 28, 182, 1, 119, 153, 0, 10, 29]
abbrev dktX2_trail_0 : List UInt8 := dkwX2_trail_0 ++ dktX2_trail_1
theorem dksX2_trail_0 : cX2_trail.data.toList.drop 0 = dktX2_trail_0 := by decide +kernel
theorem dksX2_trail_1 : cX2_trail.data.toList.drop 22 = dktX2_trail_1 := dk_seg dksX2_trail_0 22 rfl rfl
theorem dksX2_trail_2 : cX2_trail.data.toList.drop 46 = dktX2_trail_2 := dk_seg dksX2_trail_1 24 rfl rfl
theorem dksX2_trail_3 : cX2_trail.data.toList.drop 69 = dktX2_trail_3 := dk_seg dksX2_trail_2 23 rfl rfl
theorem dksX2_trail_4 : cX2_trail.data.toList.drop 93 = dktX2_trail_4 := dk_seg dksX2_trail_3 24 rfl rfl
theorem dX2_trail_0 : decode cX2_trail 0 = .ok (.aload_n 0, 1) := dk_42 (dk_at dksX2_trail_0 0 rfl rfl)
theorem dX2_trail_1 : decode cX2_trail 1 = .ok (.iconst 0, 1) := dk_3 (dk_at dksX2_trail_0 1 rfl rfl)
theorem dX2_trail_2 : decode cX2_trail 2 = .ok (.putfield 169, 3) := dk_181 0 169 (dk_at dksX2_trail_0 2 rfl rfl)
theorem dX2_trail_5 : decode cX2_trail 5 = .ok (.aload_n 0, 1) := dk_42 (dk_at dksX2_trail_0 5 rfl rfl)
theorem dX2_trail_6 : decode cX2_trail 6 = .ok (.iload_n 1, 1) := dk_27 (dk_at dksX2_trail_0 6 rfl rfl)
theorem dX2_trail_7 : decode cX2_trail 7 = .ok (.invokevirtual 372, 3) := dk_182 1 116 (dk_at dksX2_trail_0 7 rfl rfl)
theorem dX2_trail_10 : decode cX2_trail 10 = .ok (.ifCond .eq 18, 3) := dk_153 0 18 (dk_at dksX2_trail_0 10 rfl rfl)
theorem dX2_trail_13 : decode cX2_trail 13 = .ok (.aload_n 0, 1) := dk_42 (dk_at dksX2_trail_0 13 rfl rfl)
theorem dX2_trail_14 : decode cX2_trail 14 = .ok (.iload_n 2, 1) := dk_28 (dk_at dksX2_trail_0 14 rfl rfl)
theorem dX2_trail_15 : decode cX2_trail 15 = .ok (.invokevirtual 375, 3) := dk_182 1 119 (dk_at dksX2_trail_0 15 rfl rfl)
theorem dX2_trail_18 : decode cX2_trail 18 = .ok (.ifCond .eq 10, 3) := dk_153 0 10 (dk_at dksX2_trail_0 18 rfl rfl)
theorem dX2_trail_21 : decode cX2_trail 21 = .ok (.iload_n 3, 1) := dk_29 (dk_at dksX2_trail_0 21 rfl rfl)
theorem dX2_trail_22 : decode cX2_trail 22 = .ok (.invokestatic 573, 3) := dk_184 2 61 (dk_at dksX2_trail_1 0 rfl rfl)
theorem dX2_trail_25 : decode cX2_trail 25 = .ok (.ifCond .ne 5, 3) := dk_154 0 5 (dk_at dksX2_trail_1 3 rfl rfl)
theorem dX2_trail_28 : decode cX2_trail 28 = .ok (.iconst (-1), 1) := dk_2 (dk_at dksX2_trail_1 6 rfl rfl)
theorem dX2_trail_29 : decode cX2_trail 29 = .ok (.ireturn, 1) := dk_172 (dk_at dksX2_trail_1 7 rfl rfl)
theorem dX2_trail_30 : decode cX2_trail 30 = .ok (.aload_n 0, 1) := dk_42 (dk_at dksX2_trail_1 8 rfl rfl)
theorem dX2_trail_31 : decode cX2_trail 31 = .ok (.iconst (-1), 1) := dk_2 (dk_at dksX2_trail_1 9 rfl rfl)
theorem dX2_trail_32 : decode cX2_trail 32 = .ok (.invokevirtual 549, 3) := dk_182 2 37 (dk_at dksX2_trail_1 10 rfl rfl)
theorem dX2_trail_35 : decode cX2_trail 35 = .ok (.aload_n 0, 1) := dk_42 (dk_at dksX2_trail_1 13 rfl rfl)
theorem dX2_trail_36 : decode cX2_trail 36 = .ok (.iload_n 2, 1) := dk_28 (dk_at dksX2_trail_1 14 rfl rfl)
theorem dX2_trail_37 : decode cX2_trail 37 = .ok (.iload_n 3, 1) := dk_29 (dk_at dksX2_trail_1 15 rfl rfl)
theorem dX2_trail_38 : decode cX2_trail 38 = .ok (.invokevirtual 582, 3) := dk_182 2 70 (dk_at dksX2_trail_1 16 rfl rfl)
theorem dX2_trail_41 : decode cX2_trail 41 = .ok (.istore 5, 2) := dk_54 5 (dk_at dksX2_trail_1 19 rfl rfl)
theorem dX2_trail_43 : decode cX2_trail 43 = .ok (.iload 4, 2) := dk_21 4 (dk_at dksX2_trail_1 21 rfl rfl)
theorem dX2_trail_45 : decode cX2_trail 45 = .ok (.iconst (-1), 1) := dk_2 (dk_at dksX2_trail_1 23 rfl rfl)
theorem dX2_trail_46 : decode cX2_trail 46 = .ok (.if_icmp .eq 10, 3) := dk_159 0 10 (dk_at dksX2_trail_2 0 rfl rfl)
theorem dX2_trail_49 : decode cX2_trail 49 = .ok (.iload 4, 2) := dk_21 4 (dk_at dksX2_trail_2 3 rfl rfl)
theorem dX2_trail_51 : decode cX2_trail 51 = .ok (.bipush 20, 2) := dk_16 20 (dk_at dksX2_trail_2 5 rfl rfl)
theorem dX2_trail_53 : decode cX2_trail 53 = .ok (.if_icmp .ne 19, 3) := dk_160 0 19 (dk_at dksX2_trail_2 7 rfl rfl)
theorem dX2_trail_56 : decode cX2_trail 56 = .ok (.iload 4, 2) := dk_21 4 (dk_at dksX2_trail_2 10 rfl rfl)
theorem dX2_trail_58 : decode cX2_trail 58 = .ok (.iconst (-1), 1) := dk_2 (dk_at dksX2_trail_2 12 rfl rfl)
theorem dX2_trail_59 : decode cX2_trail 59 = .ok (.if_icmp .ne 10, 3) := dk_160 0 10 (dk_at dksX2_trail_2 13 rfl rfl)
theorem dX2_trail_62 : decode cX2_trail 62 = .ok (.aload_n 0, 1) := dk_42 (dk_at dksX2_trail_2 16 rfl rfl)
theorem dX2_trail_63 : decode cX2_trail 63 = .ok (.getfield 579, 3) := dk_180 2 67 (dk_at dksX2_trail_2 17 rfl rfl)
theorem dX2_trail_66 : decode cX2_trail 66 = .ok (.goto 5, 3) := dk_167 0 5 (dk_at dksX2_trail_2 20 rfl rfl)
theorem dX2_trail_69 : decode cX2_trail 69 = .ok (.iload 5, 2) := dk_21 5 (dk_at dksX2_trail_3 0 rfl rfl)
theorem dX2_trail_71 : decode cX2_trail 71 = .ok (.ireturn, 1) := dk_172 (dk_at dksX2_trail_3 2 rfl rfl)
theorem dX2_trail_72 : decode cX2_trail 72 = .ok (.iload 4, 2) := dk_21 4 (dk_at dksX2_trail_3 3 rfl rfl)
theorem dX2_trail_74 : decode cX2_trail 74 = .ok (.iconst 0, 1) := dk_3 (dk_at dksX2_trail_3 5 rfl rfl)
theorem dX2_trail_75 : decode cX2_trail 75 = .ok (.aload_n 0, 1) := dk_42 (dk_at dksX2_trail_3 6 rfl rfl)
theorem dX2_trail_76 : decode cX2_trail 76 = .ok (.getfield 579, 3) := dk_180 2 67 (dk_at dksX2_trail_3 7 rfl rfl)
theorem dX2_trail_79 : decode cX2_trail 79 = .ok (.iconst 1, 1) := dk_4 (dk_at dksX2_trail_3 10 rfl rfl)
theorem dX2_trail_80 : decode cX2_trail 80 = .ok (.isub, 1) := dk_100 (dk_at dksX2_trail_3 11 rfl rfl)
theorem dX2_trail_81 : decode cX2_trail 81 = .ok (.invokestatic 181, 3) := dk_184 0 181 (dk_at dksX2_trail_3 12 rfl rfl)
theorem dX2_trail_84 : decode cX2_trail 84 = .ok (.ifCond .eq 13, 3) := dk_153 0 13 (dk_at dksX2_trail_3 15 rfl rfl)
theorem dX2_trail_87 : decode cX2_trail 87 = .ok (.aload_n 0, 1) := dk_42 (dk_at dksX2_trail_3 18 rfl rfl)
theorem dX2_trail_88 : decode cX2_trail 88 = .ok (.getfield 156, 3) := dk_180 0 156 (dk_at dksX2_trail_3 19 rfl rfl)
theorem dX2_trail_91 : decode cX2_trail 91 = .ok (.iload 4, 2) := dk_21 4 (dk_at dksX2_trail_3 22 rfl rfl)
theorem dX2_trail_93 : decode cX2_trail 93 = .ok (.iaload, 1) := dk_46 (dk_at dksX2_trail_4 0 rfl rfl)
theorem dX2_trail_94 : decode cX2_trail 94 = .ok (.goto 4, 3) := dk_167 0 4 (dk_at dksX2_trail_4 1 rfl rfl)
theorem dX2_trail_97 : decode cX2_trail 97 = .ok (.iconst (-1), 1) := dk_2 (dk_at dksX2_trail_4 4 rfl rfl)
theorem dX2_trail_98 : decode cX2_trail 98 = .ok (.ireturn, 1) := dk_172 (dk_at dksX2_trail_4 5 rfl rfl)
abbrev cX2_walks : ByteArray := prog_25_method_107_code
def yX2_walks : MethodName := ⟨RX2, "walks", "(II)I"⟩
def dkwX2_walks_4 : List UInt8 := [172, 21, 5, 54, 4, 21, 6, 54, 5, 167, 255, 165]
abbrev dktX2_walks_4 : List UInt8 := dkwX2_walks_4 ++ []
def dkwX2_walks_3 : List UInt8 := [2, 160, 0, 7, 3, 167, 0, 7, 4, 21, 4, 120, 182, 1, 193, 54, 6, 21, 6, 2, 160, 0, 5, 5]
abbrev dktX2_walks_3 : List UInt8 := dkwX2_walks_3 ++ dktX2_walks_4
def dkwX2_walks_2 : List UInt8 := [21, 5, 120, 128, 62, 42, 21, 5, 28, 182, 1, 225, 2, 159, 0, 5, 4, 172, 42, 21, 5, 28, 21, 4]
abbrev dktX2_walks_2 : List UInt8 := dkwX2_walks_2 ++ dktX2_walks_3
def dkwX2_walks_1 : List UInt8 := [42, 89, 180, 2, 67, 4, 96, 181, 2, 67, 29, 21, 5, 184, 0, 173, 153, 0, 5, 6, 172, 29, 4]
abbrev dktX2_walks_1 : List UInt8 := dkwX2_walks_1 ++ dktX2_walks_2
def dkwX2_walks_0 : List UInt8 := [42, 3, 181, 2, 67, 3, 62, 2, 54, 4, 27, 54, 5, 42, 180, 0, 156, 42, 180, 2, 67, 21, 5, 79]
abbrev dktX2_walks_0 : List UInt8 := dkwX2_walks_0 ++ dktX2_walks_1
theorem dksX2_walks_0 : cX2_walks.data.toList.drop 0 = dktX2_walks_0 := by decide +kernel
theorem dksX2_walks_1 : cX2_walks.data.toList.drop 24 = dktX2_walks_1 := dk_seg dksX2_walks_0 24 rfl rfl
theorem dksX2_walks_2 : cX2_walks.data.toList.drop 47 = dktX2_walks_2 := dk_seg dksX2_walks_1 23 rfl rfl
theorem dksX2_walks_3 : cX2_walks.data.toList.drop 71 = dktX2_walks_3 := dk_seg dksX2_walks_2 24 rfl rfl
theorem dksX2_walks_4 : cX2_walks.data.toList.drop 95 = dktX2_walks_4 := dk_seg dksX2_walks_3 24 rfl rfl
theorem dX2_walks_0 : decode cX2_walks 0 = .ok (.aload_n 0, 1) := dk_42 (dk_at dksX2_walks_0 0 rfl rfl)
theorem dX2_walks_1 : decode cX2_walks 1 = .ok (.iconst 0, 1) := dk_3 (dk_at dksX2_walks_0 1 rfl rfl)
theorem dX2_walks_2 : decode cX2_walks 2 = .ok (.putfield 579, 3) := dk_181 2 67 (dk_at dksX2_walks_0 2 rfl rfl)
theorem dX2_walks_5 : decode cX2_walks 5 = .ok (.iconst 0, 1) := dk_3 (dk_at dksX2_walks_0 5 rfl rfl)
theorem dX2_walks_6 : decode cX2_walks 6 = .ok (.istore_n 3, 1) := dk_62 (dk_at dksX2_walks_0 6 rfl rfl)
theorem dX2_walks_7 : decode cX2_walks 7 = .ok (.iconst (-1), 1) := dk_2 (dk_at dksX2_walks_0 7 rfl rfl)
theorem dX2_walks_8 : decode cX2_walks 8 = .ok (.istore 4, 2) := dk_54 4 (dk_at dksX2_walks_0 8 rfl rfl)
theorem dX2_walks_10 : decode cX2_walks 10 = .ok (.iload_n 1, 1) := dk_27 (dk_at dksX2_walks_0 10 rfl rfl)
theorem dX2_walks_11 : decode cX2_walks 11 = .ok (.istore 5, 2) := dk_54 5 (dk_at dksX2_walks_0 11 rfl rfl)
theorem dX2_walks_13 : decode cX2_walks 13 = .ok (.aload_n 0, 1) := dk_42 (dk_at dksX2_walks_0 13 rfl rfl)
theorem dX2_walks_14 : decode cX2_walks 14 = .ok (.getfield 156, 3) := dk_180 0 156 (dk_at dksX2_walks_0 14 rfl rfl)
theorem dX2_walks_17 : decode cX2_walks 17 = .ok (.aload_n 0, 1) := dk_42 (dk_at dksX2_walks_0 17 rfl rfl)
theorem dX2_walks_18 : decode cX2_walks 18 = .ok (.getfield 579, 3) := dk_180 2 67 (dk_at dksX2_walks_0 18 rfl rfl)
theorem dX2_walks_21 : decode cX2_walks 21 = .ok (.iload 5, 2) := dk_21 5 (dk_at dksX2_walks_0 21 rfl rfl)
theorem dX2_walks_23 : decode cX2_walks 23 = .ok (.iastore, 1) := dk_79 (dk_at dksX2_walks_0 23 rfl rfl)
theorem dX2_walks_24 : decode cX2_walks 24 = .ok (.aload_n 0, 1) := dk_42 (dk_at dksX2_walks_1 0 rfl rfl)
theorem dX2_walks_25 : decode cX2_walks 25 = .ok (.dup, 1) := dk_89 (dk_at dksX2_walks_1 1 rfl rfl)
theorem dX2_walks_26 : decode cX2_walks 26 = .ok (.getfield 579, 3) := dk_180 2 67 (dk_at dksX2_walks_1 2 rfl rfl)
theorem dX2_walks_29 : decode cX2_walks 29 = .ok (.iconst 1, 1) := dk_4 (dk_at dksX2_walks_1 5 rfl rfl)
theorem dX2_walks_30 : decode cX2_walks 30 = .ok (.iadd, 1) := dk_96 (dk_at dksX2_walks_1 6 rfl rfl)
theorem dX2_walks_31 : decode cX2_walks 31 = .ok (.putfield 579, 3) := dk_181 2 67 (dk_at dksX2_walks_1 7 rfl rfl)
theorem dX2_walks_34 : decode cX2_walks 34 = .ok (.iload_n 3, 1) := dk_29 (dk_at dksX2_walks_1 10 rfl rfl)
theorem dX2_walks_35 : decode cX2_walks 35 = .ok (.iload 5, 2) := dk_21 5 (dk_at dksX2_walks_1 11 rfl rfl)
theorem dX2_walks_37 : decode cX2_walks 37 = .ok (.invokestatic 173, 3) := dk_184 0 173 (dk_at dksX2_walks_1 13 rfl rfl)
theorem dX2_walks_40 : decode cX2_walks 40 = .ok (.ifCond .eq 5, 3) := dk_153 0 5 (dk_at dksX2_walks_1 16 rfl rfl)
theorem dX2_walks_43 : decode cX2_walks 43 = .ok (.iconst 3, 1) := dk_6 (dk_at dksX2_walks_1 19 rfl rfl)
theorem dX2_walks_44 : decode cX2_walks 44 = .ok (.ireturn, 1) := dk_172 (dk_at dksX2_walks_1 20 rfl rfl)
theorem dX2_walks_45 : decode cX2_walks 45 = .ok (.iload_n 3, 1) := dk_29 (dk_at dksX2_walks_1 21 rfl rfl)
theorem dX2_walks_46 : decode cX2_walks 46 = .ok (.iconst 1, 1) := dk_4 (dk_at dksX2_walks_1 22 rfl rfl)
theorem dX2_walks_47 : decode cX2_walks 47 = .ok (.iload 5, 2) := dk_21 5 (dk_at dksX2_walks_2 0 rfl rfl)
theorem dX2_walks_49 : decode cX2_walks 49 = .ok (.ishl, 1) := dk_120 (dk_at dksX2_walks_2 2 rfl rfl)
theorem dX2_walks_50 : decode cX2_walks 50 = .ok (.ior, 1) := dk_128 (dk_at dksX2_walks_2 3 rfl rfl)
theorem dX2_walks_51 : decode cX2_walks 51 = .ok (.istore_n 3, 1) := dk_62 (dk_at dksX2_walks_2 4 rfl rfl)
theorem dX2_walks_52 : decode cX2_walks 52 = .ok (.aload_n 0, 1) := dk_42 (dk_at dksX2_walks_2 5 rfl rfl)
theorem dX2_walks_53 : decode cX2_walks 53 = .ok (.iload 5, 2) := dk_21 5 (dk_at dksX2_walks_2 6 rfl rfl)
theorem dX2_walks_55 : decode cX2_walks 55 = .ok (.iload_n 2, 1) := dk_28 (dk_at dksX2_walks_2 8 rfl rfl)
theorem dX2_walks_56 : decode cX2_walks 56 = .ok (.invokevirtual 481, 3) := dk_182 1 225 (dk_at dksX2_walks_2 9 rfl rfl)
theorem dX2_walks_59 : decode cX2_walks 59 = .ok (.iconst (-1), 1) := dk_2 (dk_at dksX2_walks_2 12 rfl rfl)
theorem dX2_walks_60 : decode cX2_walks 60 = .ok (.if_icmp .eq 5, 3) := dk_159 0 5 (dk_at dksX2_walks_2 13 rfl rfl)
theorem dX2_walks_63 : decode cX2_walks 63 = .ok (.iconst 1, 1) := dk_4 (dk_at dksX2_walks_2 16 rfl rfl)
theorem dX2_walks_64 : decode cX2_walks 64 = .ok (.ireturn, 1) := dk_172 (dk_at dksX2_walks_2 17 rfl rfl)
theorem dX2_walks_65 : decode cX2_walks 65 = .ok (.aload_n 0, 1) := dk_42 (dk_at dksX2_walks_2 18 rfl rfl)
theorem dX2_walks_66 : decode cX2_walks 66 = .ok (.iload 5, 2) := dk_21 5 (dk_at dksX2_walks_2 19 rfl rfl)
theorem dX2_walks_68 : decode cX2_walks 68 = .ok (.iload_n 2, 1) := dk_28 (dk_at dksX2_walks_2 21 rfl rfl)
theorem dX2_walks_69 : decode cX2_walks 69 = .ok (.iload 4, 2) := dk_21 4 (dk_at dksX2_walks_2 22 rfl rfl)
theorem dX2_walks_71 : decode cX2_walks 71 = .ok (.iconst (-1), 1) := dk_2 (dk_at dksX2_walks_3 0 rfl rfl)
theorem dX2_walks_72 : decode cX2_walks 72 = .ok (.if_icmp .ne 7, 3) := dk_160 0 7 (dk_at dksX2_walks_3 1 rfl rfl)
theorem dX2_walks_75 : decode cX2_walks 75 = .ok (.iconst 0, 1) := dk_3 (dk_at dksX2_walks_3 4 rfl rfl)
theorem dX2_walks_76 : decode cX2_walks 76 = .ok (.goto 7, 3) := dk_167 0 7 (dk_at dksX2_walks_3 5 rfl rfl)
theorem dX2_walks_79 : decode cX2_walks 79 = .ok (.iconst 1, 1) := dk_4 (dk_at dksX2_walks_3 8 rfl rfl)
theorem dX2_walks_80 : decode cX2_walks 80 = .ok (.iload 4, 2) := dk_21 4 (dk_at dksX2_walks_3 9 rfl rfl)
theorem dX2_walks_82 : decode cX2_walks 82 = .ok (.ishl, 1) := dk_120 (dk_at dksX2_walks_3 11 rfl rfl)
theorem dX2_walks_83 : decode cX2_walks 83 = .ok (.invokevirtual 449, 3) := dk_182 1 193 (dk_at dksX2_walks_3 12 rfl rfl)
theorem dX2_walks_86 : decode cX2_walks 86 = .ok (.istore 6, 2) := dk_54 6 (dk_at dksX2_walks_3 15 rfl rfl)
theorem dX2_walks_88 : decode cX2_walks 88 = .ok (.iload 6, 2) := dk_21 6 (dk_at dksX2_walks_3 17 rfl rfl)
theorem dX2_walks_90 : decode cX2_walks 90 = .ok (.iconst (-1), 1) := dk_2 (dk_at dksX2_walks_3 19 rfl rfl)
theorem dX2_walks_91 : decode cX2_walks 91 = .ok (.if_icmp .ne 5, 3) := dk_160 0 5 (dk_at dksX2_walks_3 20 rfl rfl)
theorem dX2_walks_94 : decode cX2_walks 94 = .ok (.iconst 2, 1) := dk_5 (dk_at dksX2_walks_3 23 rfl rfl)
theorem dX2_walks_95 : decode cX2_walks 95 = .ok (.ireturn, 1) := dk_172 (dk_at dksX2_walks_4 0 rfl rfl)
theorem dX2_walks_96 : decode cX2_walks 96 = .ok (.iload 5, 2) := dk_21 5 (dk_at dksX2_walks_4 1 rfl rfl)
theorem dX2_walks_98 : decode cX2_walks 98 = .ok (.istore 4, 2) := dk_54 4 (dk_at dksX2_walks_4 3 rfl rfl)
theorem dX2_walks_100 : decode cX2_walks 100 = .ok (.iload 6, 2) := dk_21 6 (dk_at dksX2_walks_4 5 rfl rfl)
theorem dX2_walks_102 : decode cX2_walks 102 = .ok (.istore 5, 2) := dk_54 5 (dk_at dksX2_walks_4 7 rfl rfl)
theorem dX2_walks_104 : decode cX2_walks 104 = .ok (.goto (-91), 3) := dk_167 255 165 (dk_at dksX2_walks_4 9 rfl rfl)
abbrev cX2_far : ByteArray := prog_25_method_109_code
def yX2_far : MethodName := ⟨RX2, "far", "(III)I"⟩
def dkwX2_far_11 : List UInt8 := [21, 4, 167, 0, 4, 2, 172]
abbrev dktX2_far_11 : List UInt8 := dkwX2_far_11 ++ []
def dkwX2_far_10 : List UInt8 := [167, 255, 176, 42, 180, 0, 159, 16, 6, 28, 104, 29, 96, 46, 54, 4, 21, 4, 19, 1, 189, 162, 0, 8]
abbrev dktX2_far_10 : List UInt8 := dkwX2_far_10 ++ dktX2_far_11
def dkwX2_far_9 : List UInt8 := [42, 180, 0, 159, 21, 5, 46, 21, 6, 184, 0, 253, 79, 132, 5, 1, 167, 255, 192, 132, 4, 1]
abbrev dktX2_far_9 : List UInt8 := dkwX2_far_9 ++ dktX2_far_10
def dkwX2_far_8 : List UInt8 := [180, 0, 159, 16, 6, 21, 4, 104, 21, 5, 16, 6, 112, 96, 46, 96, 54, 6, 42, 180, 0, 159, 21, 5]
abbrev dktX2_far_8 : List UInt8 := dkwX2_far_8 ++ dktX2_far_9
def dkwX2_far_7 : List UInt8 := [21, 5, 16, 36, 162, 0, 63, 42, 180, 0, 159, 16, 6, 21, 5, 16, 6, 108, 104, 21, 4, 96, 46, 42]
abbrev dktX2_far_7 : List UInt8 := dkwX2_far_7 ++ dktX2_far_8
def dkwX2_far_6 : List UInt8 := [5, 182, 1, 92, 79, 132, 4, 1, 167, 255, 184, 3, 54, 4, 21, 4, 16, 6, 162, 0, 79, 3, 54, 5]
abbrev dktX2_far_6 : List UInt8 := dkwX2_far_6 ++ dktX2_far_7
def dkwX2_far_5 : List UInt8 := [180, 0, 159, 16, 6, 42, 21, 4, 4, 182, 1, 92, 104, 42, 21, 4, 3, 182, 1, 92, 96, 42, 21, 4]
abbrev dktX2_far_5 : List UInt8 := dkwX2_far_5 ++ dktX2_far_6
def dkwX2_far_4 : List UInt8 := [3, 182, 1, 92, 104, 42, 21, 4, 4, 182, 1, 92, 96, 42, 21, 4, 5, 182, 1, 92, 79, 42]
abbrev dktX2_far_4 : List UInt8 := dkwX2_far_4 ++ dktX2_far_5
def dkwX2_far_3 : List UInt8 := [167, 255, 219, 3, 54, 4, 21, 4, 42, 182, 1, 89, 162, 0, 69, 42, 180, 0, 159, 16, 6, 42, 21, 4]
abbrev dktX2_far_3 : List UInt8 := dkwX2_far_3 ++ dktX2_far_4
def dkwX2_far_2 : List UInt8 := [21, 4, 16, 6, 108, 21, 4, 16, 6, 112, 160, 0, 7, 3, 167, 0, 6, 19, 1, 189, 79, 132, 4, 1]
abbrev dktX2_far_2 : List UInt8 := dkwX2_far_2 ++ dktX2_far_3
def dkwX2_far_1 : List UInt8 := [182, 1, 119, 154, 0, 5, 2, 172, 3, 54, 4, 21, 4, 16, 36, 162, 0, 36, 42, 180, 0, 159, 21, 4]
abbrev dktX2_far_1 : List UInt8 := dkwX2_far_1 ++ dktX2_far_2
def dkwX2_far_0 : List UInt8 := [42, 3, 181, 0, 169, 42, 27, 182, 1, 116, 153, 0, 19, 42, 28, 182, 1, 119, 153, 0, 11, 42, 29]
abbrev dktX2_far_0 : List UInt8 := dkwX2_far_0 ++ dktX2_far_1
theorem dksX2_far_0 : cX2_far.data.toList.drop 0 = dktX2_far_0 := by decide +kernel
theorem dksX2_far_1 : cX2_far.data.toList.drop 23 = dktX2_far_1 := dk_seg dksX2_far_0 23 rfl rfl
theorem dksX2_far_2 : cX2_far.data.toList.drop 47 = dktX2_far_2 := dk_seg dksX2_far_1 24 rfl rfl
theorem dksX2_far_3 : cX2_far.data.toList.drop 71 = dktX2_far_3 := dk_seg dksX2_far_2 24 rfl rfl
theorem dksX2_far_4 : cX2_far.data.toList.drop 95 = dktX2_far_4 := dk_seg dksX2_far_3 24 rfl rfl
theorem dksX2_far_5 : cX2_far.data.toList.drop 117 = dktX2_far_5 := dk_seg dksX2_far_4 22 rfl rfl
theorem dksX2_far_6 : cX2_far.data.toList.drop 141 = dktX2_far_6 := dk_seg dksX2_far_5 24 rfl rfl
theorem dksX2_far_7 : cX2_far.data.toList.drop 165 = dktX2_far_7 := dk_seg dksX2_far_6 24 rfl rfl
theorem dksX2_far_8 : cX2_far.data.toList.drop 189 = dktX2_far_8 := dk_seg dksX2_far_7 24 rfl rfl
theorem dksX2_far_9 : cX2_far.data.toList.drop 213 = dktX2_far_9 := dk_seg dksX2_far_8 24 rfl rfl
theorem dksX2_far_10 : cX2_far.data.toList.drop 235 = dktX2_far_10 := dk_seg dksX2_far_9 22 rfl rfl
theorem dksX2_far_11 : cX2_far.data.toList.drop 259 = dktX2_far_11 := dk_seg dksX2_far_10 24 rfl rfl
theorem dX2_far_0 : decode cX2_far 0 = .ok (.aload_n 0, 1) := dk_42 (dk_at dksX2_far_0 0 rfl rfl)
theorem dX2_far_1 : decode cX2_far 1 = .ok (.iconst 0, 1) := dk_3 (dk_at dksX2_far_0 1 rfl rfl)
theorem dX2_far_2 : decode cX2_far 2 = .ok (.putfield 169, 3) := dk_181 0 169 (dk_at dksX2_far_0 2 rfl rfl)
theorem dX2_far_5 : decode cX2_far 5 = .ok (.aload_n 0, 1) := dk_42 (dk_at dksX2_far_0 5 rfl rfl)
theorem dX2_far_6 : decode cX2_far 6 = .ok (.iload_n 1, 1) := dk_27 (dk_at dksX2_far_0 6 rfl rfl)
theorem dX2_far_7 : decode cX2_far 7 = .ok (.invokevirtual 372, 3) := dk_182 1 116 (dk_at dksX2_far_0 7 rfl rfl)
theorem dX2_far_10 : decode cX2_far 10 = .ok (.ifCond .eq 19, 3) := dk_153 0 19 (dk_at dksX2_far_0 10 rfl rfl)
theorem dX2_far_13 : decode cX2_far 13 = .ok (.aload_n 0, 1) := dk_42 (dk_at dksX2_far_0 13 rfl rfl)
theorem dX2_far_14 : decode cX2_far 14 = .ok (.iload_n 2, 1) := dk_28 (dk_at dksX2_far_0 14 rfl rfl)
theorem dX2_far_15 : decode cX2_far 15 = .ok (.invokevirtual 375, 3) := dk_182 1 119 (dk_at dksX2_far_0 15 rfl rfl)
theorem dX2_far_18 : decode cX2_far 18 = .ok (.ifCond .eq 11, 3) := dk_153 0 11 (dk_at dksX2_far_0 18 rfl rfl)
theorem dX2_far_21 : decode cX2_far 21 = .ok (.aload_n 0, 1) := dk_42 (dk_at dksX2_far_0 21 rfl rfl)
theorem dX2_far_22 : decode cX2_far 22 = .ok (.iload_n 3, 1) := dk_29 (dk_at dksX2_far_0 22 rfl rfl)
theorem dX2_far_23 : decode cX2_far 23 = .ok (.invokevirtual 375, 3) := dk_182 1 119 (dk_at dksX2_far_1 0 rfl rfl)
theorem dX2_far_26 : decode cX2_far 26 = .ok (.ifCond .ne 5, 3) := dk_154 0 5 (dk_at dksX2_far_1 3 rfl rfl)
theorem dX2_far_29 : decode cX2_far 29 = .ok (.iconst (-1), 1) := dk_2 (dk_at dksX2_far_1 6 rfl rfl)
theorem dX2_far_30 : decode cX2_far 30 = .ok (.ireturn, 1) := dk_172 (dk_at dksX2_far_1 7 rfl rfl)
theorem dX2_far_31 : decode cX2_far 31 = .ok (.iconst 0, 1) := dk_3 (dk_at dksX2_far_1 8 rfl rfl)
theorem dX2_far_32 : decode cX2_far 32 = .ok (.istore 4, 2) := dk_54 4 (dk_at dksX2_far_1 9 rfl rfl)
theorem dX2_far_34 : decode cX2_far 34 = .ok (.iload 4, 2) := dk_21 4 (dk_at dksX2_far_1 11 rfl rfl)
theorem dX2_far_36 : decode cX2_far 36 = .ok (.bipush 36, 2) := dk_16 36 (dk_at dksX2_far_1 13 rfl rfl)
theorem dX2_far_38 : decode cX2_far 38 = .ok (.if_icmp .ge 36, 3) := dk_162 0 36 (dk_at dksX2_far_1 15 rfl rfl)
theorem dX2_far_41 : decode cX2_far 41 = .ok (.aload_n 0, 1) := dk_42 (dk_at dksX2_far_1 18 rfl rfl)
theorem dX2_far_42 : decode cX2_far 42 = .ok (.getfield 159, 3) := dk_180 0 159 (dk_at dksX2_far_1 19 rfl rfl)
theorem dX2_far_45 : decode cX2_far 45 = .ok (.iload 4, 2) := dk_21 4 (dk_at dksX2_far_1 22 rfl rfl)
theorem dX2_far_47 : decode cX2_far 47 = .ok (.iload 4, 2) := dk_21 4 (dk_at dksX2_far_2 0 rfl rfl)
theorem dX2_far_49 : decode cX2_far 49 = .ok (.bipush 6, 2) := dk_16 6 (dk_at dksX2_far_2 2 rfl rfl)
theorem dX2_far_51 : decode cX2_far 51 = .ok (.idiv, 1) := dk_108 (dk_at dksX2_far_2 4 rfl rfl)
theorem dX2_far_52 : decode cX2_far 52 = .ok (.iload 4, 2) := dk_21 4 (dk_at dksX2_far_2 5 rfl rfl)
theorem dX2_far_54 : decode cX2_far 54 = .ok (.bipush 6, 2) := dk_16 6 (dk_at dksX2_far_2 7 rfl rfl)
theorem dX2_far_56 : decode cX2_far 56 = .ok (.irem, 1) := dk_112 (dk_at dksX2_far_2 9 rfl rfl)
theorem dX2_far_57 : decode cX2_far 57 = .ok (.if_icmp .ne 7, 3) := dk_160 0 7 (dk_at dksX2_far_2 10 rfl rfl)
theorem dX2_far_60 : decode cX2_far 60 = .ok (.iconst 0, 1) := dk_3 (dk_at dksX2_far_2 13 rfl rfl)
theorem dX2_far_61 : decode cX2_far 61 = .ok (.goto 6, 3) := dk_167 0 6 (dk_at dksX2_far_2 14 rfl rfl)
theorem dX2_far_64 : decode cX2_far 64 = .ok (.ldc_w 445, 3) := dk_19 1 189 (dk_at dksX2_far_2 17 rfl rfl)
theorem dX2_far_67 : decode cX2_far 67 = .ok (.iastore, 1) := dk_79 (dk_at dksX2_far_2 20 rfl rfl)
theorem dX2_far_68 : decode cX2_far 68 = .ok (.iinc 4 1, 3) := dk_132 4 1 (dk_at dksX2_far_2 21 rfl rfl)
theorem dX2_far_71 : decode cX2_far 71 = .ok (.goto (-37), 3) := dk_167 255 219 (dk_at dksX2_far_3 0 rfl rfl)
theorem dX2_far_74 : decode cX2_far 74 = .ok (.iconst 0, 1) := dk_3 (dk_at dksX2_far_3 3 rfl rfl)
theorem dX2_far_75 : decode cX2_far 75 = .ok (.istore 4, 2) := dk_54 4 (dk_at dksX2_far_3 4 rfl rfl)
theorem dX2_far_77 : decode cX2_far 77 = .ok (.iload 4, 2) := dk_21 4 (dk_at dksX2_far_3 6 rfl rfl)
theorem dX2_far_79 : decode cX2_far 79 = .ok (.aload_n 0, 1) := dk_42 (dk_at dksX2_far_3 8 rfl rfl)
theorem dX2_far_80 : decode cX2_far 80 = .ok (.invokevirtual 345, 3) := dk_182 1 89 (dk_at dksX2_far_3 9 rfl rfl)
theorem dX2_far_83 : decode cX2_far 83 = .ok (.if_icmp .ge 69, 3) := dk_162 0 69 (dk_at dksX2_far_3 12 rfl rfl)
theorem dX2_far_86 : decode cX2_far 86 = .ok (.aload_n 0, 1) := dk_42 (dk_at dksX2_far_3 15 rfl rfl)
theorem dX2_far_87 : decode cX2_far 87 = .ok (.getfield 159, 3) := dk_180 0 159 (dk_at dksX2_far_3 16 rfl rfl)
theorem dX2_far_90 : decode cX2_far 90 = .ok (.bipush 6, 2) := dk_16 6 (dk_at dksX2_far_3 19 rfl rfl)
theorem dX2_far_92 : decode cX2_far 92 = .ok (.aload_n 0, 1) := dk_42 (dk_at dksX2_far_3 21 rfl rfl)
theorem dX2_far_93 : decode cX2_far 93 = .ok (.iload 4, 2) := dk_21 4 (dk_at dksX2_far_3 22 rfl rfl)
theorem dX2_far_95 : decode cX2_far 95 = .ok (.iconst 0, 1) := dk_3 (dk_at dksX2_far_4 0 rfl rfl)
theorem dX2_far_96 : decode cX2_far 96 = .ok (.invokevirtual 348, 3) := dk_182 1 92 (dk_at dksX2_far_4 1 rfl rfl)
theorem dX2_far_99 : decode cX2_far 99 = .ok (.imul, 1) := dk_104 (dk_at dksX2_far_4 4 rfl rfl)
theorem dX2_far_100 : decode cX2_far 100 = .ok (.aload_n 0, 1) := dk_42 (dk_at dksX2_far_4 5 rfl rfl)
theorem dX2_far_101 : decode cX2_far 101 = .ok (.iload 4, 2) := dk_21 4 (dk_at dksX2_far_4 6 rfl rfl)
theorem dX2_far_103 : decode cX2_far 103 = .ok (.iconst 1, 1) := dk_4 (dk_at dksX2_far_4 8 rfl rfl)
theorem dX2_far_104 : decode cX2_far 104 = .ok (.invokevirtual 348, 3) := dk_182 1 92 (dk_at dksX2_far_4 9 rfl rfl)
theorem dX2_far_107 : decode cX2_far 107 = .ok (.iadd, 1) := dk_96 (dk_at dksX2_far_4 12 rfl rfl)
theorem dX2_far_108 : decode cX2_far 108 = .ok (.aload_n 0, 1) := dk_42 (dk_at dksX2_far_4 13 rfl rfl)
theorem dX2_far_109 : decode cX2_far 109 = .ok (.iload 4, 2) := dk_21 4 (dk_at dksX2_far_4 14 rfl rfl)
theorem dX2_far_111 : decode cX2_far 111 = .ok (.iconst 2, 1) := dk_5 (dk_at dksX2_far_4 16 rfl rfl)
theorem dX2_far_112 : decode cX2_far 112 = .ok (.invokevirtual 348, 3) := dk_182 1 92 (dk_at dksX2_far_4 17 rfl rfl)
theorem dX2_far_115 : decode cX2_far 115 = .ok (.iastore, 1) := dk_79 (dk_at dksX2_far_4 20 rfl rfl)
theorem dX2_far_116 : decode cX2_far 116 = .ok (.aload_n 0, 1) := dk_42 (dk_at dksX2_far_4 21 rfl rfl)
theorem dX2_far_117 : decode cX2_far 117 = .ok (.getfield 159, 3) := dk_180 0 159 (dk_at dksX2_far_5 0 rfl rfl)
theorem dX2_far_120 : decode cX2_far 120 = .ok (.bipush 6, 2) := dk_16 6 (dk_at dksX2_far_5 3 rfl rfl)
theorem dX2_far_122 : decode cX2_far 122 = .ok (.aload_n 0, 1) := dk_42 (dk_at dksX2_far_5 5 rfl rfl)
theorem dX2_far_123 : decode cX2_far 123 = .ok (.iload 4, 2) := dk_21 4 (dk_at dksX2_far_5 6 rfl rfl)
theorem dX2_far_125 : decode cX2_far 125 = .ok (.iconst 1, 1) := dk_4 (dk_at dksX2_far_5 8 rfl rfl)
theorem dX2_far_126 : decode cX2_far 126 = .ok (.invokevirtual 348, 3) := dk_182 1 92 (dk_at dksX2_far_5 9 rfl rfl)
theorem dX2_far_129 : decode cX2_far 129 = .ok (.imul, 1) := dk_104 (dk_at dksX2_far_5 12 rfl rfl)
theorem dX2_far_130 : decode cX2_far 130 = .ok (.aload_n 0, 1) := dk_42 (dk_at dksX2_far_5 13 rfl rfl)
theorem dX2_far_131 : decode cX2_far 131 = .ok (.iload 4, 2) := dk_21 4 (dk_at dksX2_far_5 14 rfl rfl)
theorem dX2_far_133 : decode cX2_far 133 = .ok (.iconst 0, 1) := dk_3 (dk_at dksX2_far_5 16 rfl rfl)
theorem dX2_far_134 : decode cX2_far 134 = .ok (.invokevirtual 348, 3) := dk_182 1 92 (dk_at dksX2_far_5 17 rfl rfl)
theorem dX2_far_137 : decode cX2_far 137 = .ok (.iadd, 1) := dk_96 (dk_at dksX2_far_5 20 rfl rfl)
theorem dX2_far_138 : decode cX2_far 138 = .ok (.aload_n 0, 1) := dk_42 (dk_at dksX2_far_5 21 rfl rfl)
theorem dX2_far_139 : decode cX2_far 139 = .ok (.iload 4, 2) := dk_21 4 (dk_at dksX2_far_5 22 rfl rfl)
theorem dX2_far_141 : decode cX2_far 141 = .ok (.iconst 2, 1) := dk_5 (dk_at dksX2_far_6 0 rfl rfl)
theorem dX2_far_142 : decode cX2_far 142 = .ok (.invokevirtual 348, 3) := dk_182 1 92 (dk_at dksX2_far_6 1 rfl rfl)
theorem dX2_far_145 : decode cX2_far 145 = .ok (.iastore, 1) := dk_79 (dk_at dksX2_far_6 4 rfl rfl)
theorem dX2_far_146 : decode cX2_far 146 = .ok (.iinc 4 1, 3) := dk_132 4 1 (dk_at dksX2_far_6 5 rfl rfl)
theorem dX2_far_149 : decode cX2_far 149 = .ok (.goto (-72), 3) := dk_167 255 184 (dk_at dksX2_far_6 8 rfl rfl)
theorem dX2_far_152 : decode cX2_far 152 = .ok (.iconst 0, 1) := dk_3 (dk_at dksX2_far_6 11 rfl rfl)
theorem dX2_far_153 : decode cX2_far 153 = .ok (.istore 4, 2) := dk_54 4 (dk_at dksX2_far_6 12 rfl rfl)
theorem dX2_far_155 : decode cX2_far 155 = .ok (.iload 4, 2) := dk_21 4 (dk_at dksX2_far_6 14 rfl rfl)
theorem dX2_far_157 : decode cX2_far 157 = .ok (.bipush 6, 2) := dk_16 6 (dk_at dksX2_far_6 16 rfl rfl)
theorem dX2_far_159 : decode cX2_far 159 = .ok (.if_icmp .ge 79, 3) := dk_162 0 79 (dk_at dksX2_far_6 18 rfl rfl)
theorem dX2_far_162 : decode cX2_far 162 = .ok (.iconst 0, 1) := dk_3 (dk_at dksX2_far_6 21 rfl rfl)
theorem dX2_far_163 : decode cX2_far 163 = .ok (.istore 5, 2) := dk_54 5 (dk_at dksX2_far_6 22 rfl rfl)
theorem dX2_far_165 : decode cX2_far 165 = .ok (.iload 5, 2) := dk_21 5 (dk_at dksX2_far_7 0 rfl rfl)
theorem dX2_far_167 : decode cX2_far 167 = .ok (.bipush 36, 2) := dk_16 36 (dk_at dksX2_far_7 2 rfl rfl)
theorem dX2_far_169 : decode cX2_far 169 = .ok (.if_icmp .ge 63, 3) := dk_162 0 63 (dk_at dksX2_far_7 4 rfl rfl)
theorem dX2_far_172 : decode cX2_far 172 = .ok (.aload_n 0, 1) := dk_42 (dk_at dksX2_far_7 7 rfl rfl)
theorem dX2_far_173 : decode cX2_far 173 = .ok (.getfield 159, 3) := dk_180 0 159 (dk_at dksX2_far_7 8 rfl rfl)
theorem dX2_far_176 : decode cX2_far 176 = .ok (.bipush 6, 2) := dk_16 6 (dk_at dksX2_far_7 11 rfl rfl)
theorem dX2_far_178 : decode cX2_far 178 = .ok (.iload 5, 2) := dk_21 5 (dk_at dksX2_far_7 13 rfl rfl)
theorem dX2_far_180 : decode cX2_far 180 = .ok (.bipush 6, 2) := dk_16 6 (dk_at dksX2_far_7 15 rfl rfl)
theorem dX2_far_182 : decode cX2_far 182 = .ok (.idiv, 1) := dk_108 (dk_at dksX2_far_7 17 rfl rfl)
theorem dX2_far_183 : decode cX2_far 183 = .ok (.imul, 1) := dk_104 (dk_at dksX2_far_7 18 rfl rfl)
theorem dX2_far_184 : decode cX2_far 184 = .ok (.iload 4, 2) := dk_21 4 (dk_at dksX2_far_7 19 rfl rfl)
theorem dX2_far_186 : decode cX2_far 186 = .ok (.iadd, 1) := dk_96 (dk_at dksX2_far_7 21 rfl rfl)
theorem dX2_far_187 : decode cX2_far 187 = .ok (.iaload, 1) := dk_46 (dk_at dksX2_far_7 22 rfl rfl)
theorem dX2_far_188 : decode cX2_far 188 = .ok (.aload_n 0, 1) := dk_42 (dk_at dksX2_far_7 23 rfl rfl)
theorem dX2_far_189 : decode cX2_far 189 = .ok (.getfield 159, 3) := dk_180 0 159 (dk_at dksX2_far_8 0 rfl rfl)
theorem dX2_far_192 : decode cX2_far 192 = .ok (.bipush 6, 2) := dk_16 6 (dk_at dksX2_far_8 3 rfl rfl)
theorem dX2_far_194 : decode cX2_far 194 = .ok (.iload 4, 2) := dk_21 4 (dk_at dksX2_far_8 5 rfl rfl)
theorem dX2_far_196 : decode cX2_far 196 = .ok (.imul, 1) := dk_104 (dk_at dksX2_far_8 7 rfl rfl)
theorem dX2_far_197 : decode cX2_far 197 = .ok (.iload 5, 2) := dk_21 5 (dk_at dksX2_far_8 8 rfl rfl)
theorem dX2_far_199 : decode cX2_far 199 = .ok (.bipush 6, 2) := dk_16 6 (dk_at dksX2_far_8 10 rfl rfl)
theorem dX2_far_201 : decode cX2_far 201 = .ok (.irem, 1) := dk_112 (dk_at dksX2_far_8 12 rfl rfl)
theorem dX2_far_202 : decode cX2_far 202 = .ok (.iadd, 1) := dk_96 (dk_at dksX2_far_8 13 rfl rfl)
theorem dX2_far_203 : decode cX2_far 203 = .ok (.iaload, 1) := dk_46 (dk_at dksX2_far_8 14 rfl rfl)
theorem dX2_far_204 : decode cX2_far 204 = .ok (.iadd, 1) := dk_96 (dk_at dksX2_far_8 15 rfl rfl)
theorem dX2_far_205 : decode cX2_far 205 = .ok (.istore 6, 2) := dk_54 6 (dk_at dksX2_far_8 16 rfl rfl)
theorem dX2_far_207 : decode cX2_far 207 = .ok (.aload_n 0, 1) := dk_42 (dk_at dksX2_far_8 18 rfl rfl)
theorem dX2_far_208 : decode cX2_far 208 = .ok (.getfield 159, 3) := dk_180 0 159 (dk_at dksX2_far_8 19 rfl rfl)
theorem dX2_far_211 : decode cX2_far 211 = .ok (.iload 5, 2) := dk_21 5 (dk_at dksX2_far_8 22 rfl rfl)
theorem dX2_far_213 : decode cX2_far 213 = .ok (.aload_n 0, 1) := dk_42 (dk_at dksX2_far_9 0 rfl rfl)
theorem dX2_far_214 : decode cX2_far 214 = .ok (.getfield 159, 3) := dk_180 0 159 (dk_at dksX2_far_9 1 rfl rfl)
theorem dX2_far_217 : decode cX2_far 217 = .ok (.iload 5, 2) := dk_21 5 (dk_at dksX2_far_9 4 rfl rfl)
theorem dX2_far_219 : decode cX2_far 219 = .ok (.iaload, 1) := dk_46 (dk_at dksX2_far_9 6 rfl rfl)
theorem dX2_far_220 : decode cX2_far 220 = .ok (.iload 6, 2) := dk_21 6 (dk_at dksX2_far_9 7 rfl rfl)
theorem dX2_far_222 : decode cX2_far 222 = .ok (.invokestatic 253, 3) := dk_184 0 253 (dk_at dksX2_far_9 9 rfl rfl)
theorem dX2_far_225 : decode cX2_far 225 = .ok (.iastore, 1) := dk_79 (dk_at dksX2_far_9 12 rfl rfl)
theorem dX2_far_226 : decode cX2_far 226 = .ok (.iinc 5 1, 3) := dk_132 5 1 (dk_at dksX2_far_9 13 rfl rfl)
theorem dX2_far_229 : decode cX2_far 229 = .ok (.goto (-64), 3) := dk_167 255 192 (dk_at dksX2_far_9 16 rfl rfl)
theorem dX2_far_232 : decode cX2_far 232 = .ok (.iinc 4 1, 3) := dk_132 4 1 (dk_at dksX2_far_9 19 rfl rfl)
theorem dX2_far_235 : decode cX2_far 235 = .ok (.goto (-80), 3) := dk_167 255 176 (dk_at dksX2_far_10 0 rfl rfl)
theorem dX2_far_238 : decode cX2_far 238 = .ok (.aload_n 0, 1) := dk_42 (dk_at dksX2_far_10 3 rfl rfl)
theorem dX2_far_239 : decode cX2_far 239 = .ok (.getfield 159, 3) := dk_180 0 159 (dk_at dksX2_far_10 4 rfl rfl)
theorem dX2_far_242 : decode cX2_far 242 = .ok (.bipush 6, 2) := dk_16 6 (dk_at dksX2_far_10 7 rfl rfl)
theorem dX2_far_244 : decode cX2_far 244 = .ok (.iload_n 2, 1) := dk_28 (dk_at dksX2_far_10 9 rfl rfl)
theorem dX2_far_245 : decode cX2_far 245 = .ok (.imul, 1) := dk_104 (dk_at dksX2_far_10 10 rfl rfl)
theorem dX2_far_246 : decode cX2_far 246 = .ok (.iload_n 3, 1) := dk_29 (dk_at dksX2_far_10 11 rfl rfl)
theorem dX2_far_247 : decode cX2_far 247 = .ok (.iadd, 1) := dk_96 (dk_at dksX2_far_10 12 rfl rfl)
theorem dX2_far_248 : decode cX2_far 248 = .ok (.iaload, 1) := dk_46 (dk_at dksX2_far_10 13 rfl rfl)
theorem dX2_far_249 : decode cX2_far 249 = .ok (.istore 4, 2) := dk_54 4 (dk_at dksX2_far_10 14 rfl rfl)
theorem dX2_far_251 : decode cX2_far 251 = .ok (.iload 4, 2) := dk_21 4 (dk_at dksX2_far_10 16 rfl rfl)
theorem dX2_far_253 : decode cX2_far 253 = .ok (.ldc_w 445, 3) := dk_19 1 189 (dk_at dksX2_far_10 18 rfl rfl)
theorem dX2_far_256 : decode cX2_far 256 = .ok (.if_icmp .ge 8, 3) := dk_162 0 8 (dk_at dksX2_far_10 21 rfl rfl)
theorem dX2_far_259 : decode cX2_far 259 = .ok (.iload 4, 2) := dk_21 4 (dk_at dksX2_far_11 0 rfl rfl)
theorem dX2_far_261 : decode cX2_far 261 = .ok (.goto 4, 3) := dk_167 0 4 (dk_at dksX2_far_11 2 rfl rfl)
theorem dX2_far_264 : decode cX2_far 264 = .ok (.iconst (-1), 1) := dk_2 (dk_at dksX2_far_11 5 rfl rfl)
theorem dX2_far_265 : decode cX2_far 265 = .ok (.ireturn, 1) := dk_172 (dk_at dksX2_far_11 6 rfl rfl)
abbrev cX2_fact : ByteArray := prog_25_method_113_code
def yX2_fact : MethodName := ⟨RX2, "fact", "(III)I"⟩
def dkwX2_fact_2 : List UInt8 := [153, 0, 21, 29, 3, 4, 184, 0, 181, 153, 0, 12, 42, 28, 29, 182, 2, 82, 167, 0, 5, 16, 254, 172]
abbrev dktX2_fact_2 : List UInt8 := dkwX2_fact_2 ++ []
def dkwX2_fact_1 : List UInt8 := [154, 0, 10, 42, 182, 2, 79, 167, 0, 5, 16, 254, 172, 28, 3, 42, 182, 2, 79, 4, 100, 184, 0, 181]
abbrev dktX2_fact_1 : List UInt8 := dkwX2_fact_1 ++ dktX2_fact_2
def dkwX2_fact_0 : List UInt8 := [42, 3, 181, 0, 169, 42, 27, 182, 2, 76, 154, 0, 6, 16, 254, 172, 28, 2, 160, 0, 17, 29]
abbrev dktX2_fact_0 : List UInt8 := dkwX2_fact_0 ++ dktX2_fact_1
theorem dksX2_fact_0 : cX2_fact.data.toList.drop 0 = dktX2_fact_0 := by decide +kernel
theorem dksX2_fact_1 : cX2_fact.data.toList.drop 22 = dktX2_fact_1 := dk_seg dksX2_fact_0 22 rfl rfl
theorem dksX2_fact_2 : cX2_fact.data.toList.drop 46 = dktX2_fact_2 := dk_seg dksX2_fact_1 24 rfl rfl
theorem dX2_fact_0 : decode cX2_fact 0 = .ok (.aload_n 0, 1) := dk_42 (dk_at dksX2_fact_0 0 rfl rfl)
theorem dX2_fact_1 : decode cX2_fact 1 = .ok (.iconst 0, 1) := dk_3 (dk_at dksX2_fact_0 1 rfl rfl)
theorem dX2_fact_2 : decode cX2_fact 2 = .ok (.putfield 169, 3) := dk_181 0 169 (dk_at dksX2_fact_0 2 rfl rfl)
theorem dX2_fact_5 : decode cX2_fact 5 = .ok (.aload_n 0, 1) := dk_42 (dk_at dksX2_fact_0 5 rfl rfl)
theorem dX2_fact_6 : decode cX2_fact 6 = .ok (.iload_n 1, 1) := dk_27 (dk_at dksX2_fact_0 6 rfl rfl)
theorem dX2_fact_7 : decode cX2_fact 7 = .ok (.invokevirtual 588, 3) := dk_182 2 76 (dk_at dksX2_fact_0 7 rfl rfl)
theorem dX2_fact_10 : decode cX2_fact 10 = .ok (.ifCond .ne 6, 3) := dk_154 0 6 (dk_at dksX2_fact_0 10 rfl rfl)
theorem dX2_fact_13 : decode cX2_fact 13 = .ok (.bipush (-2), 2) := dk_16 254 (dk_at dksX2_fact_0 13 rfl rfl)
theorem dX2_fact_15 : decode cX2_fact 15 = .ok (.ireturn, 1) := dk_172 (dk_at dksX2_fact_0 15 rfl rfl)
theorem dX2_fact_16 : decode cX2_fact 16 = .ok (.iload_n 2, 1) := dk_28 (dk_at dksX2_fact_0 16 rfl rfl)
theorem dX2_fact_17 : decode cX2_fact 17 = .ok (.iconst (-1), 1) := dk_2 (dk_at dksX2_fact_0 17 rfl rfl)
theorem dX2_fact_18 : decode cX2_fact 18 = .ok (.if_icmp .ne 17, 3) := dk_160 0 17 (dk_at dksX2_fact_0 18 rfl rfl)
theorem dX2_fact_21 : decode cX2_fact 21 = .ok (.iload_n 3, 1) := dk_29 (dk_at dksX2_fact_0 21 rfl rfl)
theorem dX2_fact_22 : decode cX2_fact 22 = .ok (.ifCond .ne 10, 3) := dk_154 0 10 (dk_at dksX2_fact_1 0 rfl rfl)
theorem dX2_fact_25 : decode cX2_fact 25 = .ok (.aload_n 0, 1) := dk_42 (dk_at dksX2_fact_1 3 rfl rfl)
theorem dX2_fact_26 : decode cX2_fact 26 = .ok (.invokevirtual 591, 3) := dk_182 2 79 (dk_at dksX2_fact_1 4 rfl rfl)
theorem dX2_fact_29 : decode cX2_fact 29 = .ok (.goto 5, 3) := dk_167 0 5 (dk_at dksX2_fact_1 7 rfl rfl)
theorem dX2_fact_32 : decode cX2_fact 32 = .ok (.bipush (-2), 2) := dk_16 254 (dk_at dksX2_fact_1 10 rfl rfl)
theorem dX2_fact_34 : decode cX2_fact 34 = .ok (.ireturn, 1) := dk_172 (dk_at dksX2_fact_1 12 rfl rfl)
theorem dX2_fact_35 : decode cX2_fact 35 = .ok (.iload_n 2, 1) := dk_28 (dk_at dksX2_fact_1 13 rfl rfl)
theorem dX2_fact_36 : decode cX2_fact 36 = .ok (.iconst 0, 1) := dk_3 (dk_at dksX2_fact_1 14 rfl rfl)
theorem dX2_fact_37 : decode cX2_fact 37 = .ok (.aload_n 0, 1) := dk_42 (dk_at dksX2_fact_1 15 rfl rfl)
theorem dX2_fact_38 : decode cX2_fact 38 = .ok (.invokevirtual 591, 3) := dk_182 2 79 (dk_at dksX2_fact_1 16 rfl rfl)
theorem dX2_fact_41 : decode cX2_fact 41 = .ok (.iconst 1, 1) := dk_4 (dk_at dksX2_fact_1 19 rfl rfl)
theorem dX2_fact_42 : decode cX2_fact 42 = .ok (.isub, 1) := dk_100 (dk_at dksX2_fact_1 20 rfl rfl)
theorem dX2_fact_43 : decode cX2_fact 43 = .ok (.invokestatic 181, 3) := dk_184 0 181 (dk_at dksX2_fact_1 21 rfl rfl)
theorem dX2_fact_46 : decode cX2_fact 46 = .ok (.ifCond .eq 21, 3) := dk_153 0 21 (dk_at dksX2_fact_2 0 rfl rfl)
theorem dX2_fact_49 : decode cX2_fact 49 = .ok (.iload_n 3, 1) := dk_29 (dk_at dksX2_fact_2 3 rfl rfl)
theorem dX2_fact_50 : decode cX2_fact 50 = .ok (.iconst 0, 1) := dk_3 (dk_at dksX2_fact_2 4 rfl rfl)
theorem dX2_fact_51 : decode cX2_fact 51 = .ok (.iconst 1, 1) := dk_4 (dk_at dksX2_fact_2 5 rfl rfl)
theorem dX2_fact_52 : decode cX2_fact 52 = .ok (.invokestatic 181, 3) := dk_184 0 181 (dk_at dksX2_fact_2 6 rfl rfl)
theorem dX2_fact_55 : decode cX2_fact 55 = .ok (.ifCond .eq 12, 3) := dk_153 0 12 (dk_at dksX2_fact_2 9 rfl rfl)
theorem dX2_fact_58 : decode cX2_fact 58 = .ok (.aload_n 0, 1) := dk_42 (dk_at dksX2_fact_2 12 rfl rfl)
theorem dX2_fact_59 : decode cX2_fact 59 = .ok (.iload_n 2, 1) := dk_28 (dk_at dksX2_fact_2 13 rfl rfl)
theorem dX2_fact_60 : decode cX2_fact 60 = .ok (.iload_n 3, 1) := dk_29 (dk_at dksX2_fact_2 14 rfl rfl)
theorem dX2_fact_61 : decode cX2_fact 61 = .ok (.invokevirtual 594, 3) := dk_182 2 82 (dk_at dksX2_fact_2 15 rfl rfl)
theorem dX2_fact_64 : decode cX2_fact 64 = .ok (.goto 5, 3) := dk_167 0 5 (dk_at dksX2_fact_2 18 rfl rfl)
theorem dX2_fact_67 : decode cX2_fact 67 = .ok (.bipush (-2), 2) := dk_16 254 (dk_at dksX2_fact_2 21 rfl rfl)
theorem dX2_fact_69 : decode cX2_fact 69 = .ok (.ireturn, 1) := dk_172 (dk_at dksX2_fact_2 23 rfl rfl)
abbrev cX2_hasLog : ByteArray := prog_25_method_112_code
def yX2_hasLog : MethodName := ⟨RX2, "hasLog", "(I)Z"⟩
def dkwX2_hasLog_0 : List UInt8 := [42, 27, 181, 2, 73, 42, 5, 27, 182, 1, 66, 172]
abbrev dktX2_hasLog_0 : List UInt8 := dkwX2_hasLog_0 ++ []
theorem dksX2_hasLog_0 : cX2_hasLog.data.toList.drop 0 = dktX2_hasLog_0 := by decide +kernel
theorem dX2_hasLog_0 : decode cX2_hasLog 0 = .ok (.aload_n 0, 1) := dk_42 (dk_at dksX2_hasLog_0 0 rfl rfl)
theorem dX2_hasLog_1 : decode cX2_hasLog 1 = .ok (.iload_n 1, 1) := dk_27 (dk_at dksX2_hasLog_0 1 rfl rfl)
theorem dX2_hasLog_2 : decode cX2_hasLog 2 = .ok (.putfield 585, 3) := dk_181 2 73 (dk_at dksX2_hasLog_0 2 rfl rfl)
theorem dX2_hasLog_5 : decode cX2_hasLog 5 = .ok (.aload_n 0, 1) := dk_42 (dk_at dksX2_hasLog_0 5 rfl rfl)
theorem dX2_hasLog_6 : decode cX2_hasLog 6 = .ok (.iconst 2, 1) := dk_5 (dk_at dksX2_hasLog_0 6 rfl rfl)
theorem dX2_hasLog_7 : decode cX2_hasLog 7 = .ok (.iload_n 1, 1) := dk_27 (dk_at dksX2_hasLog_0 7 rfl rfl)
theorem dX2_hasLog_8 : decode cX2_hasLog 8 = .ok (.invokevirtual 322, 3) := dk_182 1 66 (dk_at dksX2_hasLog_0 8 rfl rfl)
theorem dX2_hasLog_11 : decode cX2_hasLog 11 = .ok (.ireturn, 1) := dk_172 (dk_at dksX2_hasLog_0 11 rfl rfl)
abbrev cX2_facts : ByteArray := prog_25_method_110_code
def yX2_facts : MethodName := ⟨RX2, "facts", "()I"⟩
def dkwX2_facts_0 : List UInt8 := [42, 180, 0, 32, 16, 17, 42, 180, 2, 73, 104, 46, 172]
abbrev dktX2_facts_0 : List UInt8 := dkwX2_facts_0 ++ []
theorem dksX2_facts_0 : cX2_facts.data.toList.drop 0 = dktX2_facts_0 := by decide +kernel
theorem dX2_facts_0 : decode cX2_facts 0 = .ok (.aload_n 0, 1) := dk_42 (dk_at dksX2_facts_0 0 rfl rfl)
theorem dX2_facts_1 : decode cX2_facts 1 = .ok (.getfield 32, 3) := dk_180 0 32 (dk_at dksX2_facts_0 1 rfl rfl)
theorem dX2_facts_4 : decode cX2_facts 4 = .ok (.bipush 17, 2) := dk_16 17 (dk_at dksX2_facts_0 4 rfl rfl)
theorem dX2_facts_6 : decode cX2_facts 6 = .ok (.aload_n 0, 1) := dk_42 (dk_at dksX2_facts_0 6 rfl rfl)
theorem dX2_facts_7 : decode cX2_facts 7 = .ok (.getfield 585, 3) := dk_180 2 73 (dk_at dksX2_facts_0 7 rfl rfl)
theorem dX2_facts_10 : decode cX2_facts 10 = .ok (.imul, 1) := dk_104 (dk_at dksX2_facts_0 10 rfl rfl)
theorem dX2_facts_11 : decode cX2_facts 11 = .ok (.iaload, 1) := dk_46 (dk_at dksX2_facts_0 11 rfl rfl)
theorem dX2_facts_12 : decode cX2_facts 12 = .ok (.ireturn, 1) := dk_172 (dk_at dksX2_facts_0 12 rfl rfl)
abbrev cX2_factOf : ByteArray := prog_25_method_111_code
def yX2_factOf : MethodName := ⟨RX2, "factOf", "(II)I"⟩
def dkwX2_factOf_0 : List UInt8 := [42, 180, 0, 32, 16, 17, 42, 180, 2, 73, 104, 4, 96, 5, 27, 104, 96, 28, 96, 46, 172]
abbrev dktX2_factOf_0 : List UInt8 := dkwX2_factOf_0 ++ []
theorem dksX2_factOf_0 : cX2_factOf.data.toList.drop 0 = dktX2_factOf_0 := by decide +kernel
theorem dX2_factOf_0 : decode cX2_factOf 0 = .ok (.aload_n 0, 1) := dk_42 (dk_at dksX2_factOf_0 0 rfl rfl)
theorem dX2_factOf_1 : decode cX2_factOf 1 = .ok (.getfield 32, 3) := dk_180 0 32 (dk_at dksX2_factOf_0 1 rfl rfl)
theorem dX2_factOf_4 : decode cX2_factOf 4 = .ok (.bipush 17, 2) := dk_16 17 (dk_at dksX2_factOf_0 4 rfl rfl)
theorem dX2_factOf_6 : decode cX2_factOf 6 = .ok (.aload_n 0, 1) := dk_42 (dk_at dksX2_factOf_0 6 rfl rfl)
theorem dX2_factOf_7 : decode cX2_factOf 7 = .ok (.getfield 585, 3) := dk_180 2 73 (dk_at dksX2_factOf_0 7 rfl rfl)
theorem dX2_factOf_10 : decode cX2_factOf 10 = .ok (.imul, 1) := dk_104 (dk_at dksX2_factOf_0 10 rfl rfl)
theorem dX2_factOf_11 : decode cX2_factOf 11 = .ok (.iconst 1, 1) := dk_4 (dk_at dksX2_factOf_0 11 rfl rfl)
theorem dX2_factOf_12 : decode cX2_factOf 12 = .ok (.iadd, 1) := dk_96 (dk_at dksX2_factOf_0 12 rfl rfl)
theorem dX2_factOf_13 : decode cX2_factOf 13 = .ok (.iconst 2, 1) := dk_5 (dk_at dksX2_factOf_0 13 rfl rfl)
theorem dX2_factOf_14 : decode cX2_factOf 14 = .ok (.iload_n 1, 1) := dk_27 (dk_at dksX2_factOf_0 14 rfl rfl)
theorem dX2_factOf_15 : decode cX2_factOf 15 = .ok (.imul, 1) := dk_104 (dk_at dksX2_factOf_0 15 rfl rfl)
theorem dX2_factOf_16 : decode cX2_factOf 16 = .ok (.iadd, 1) := dk_96 (dk_at dksX2_factOf_0 16 rfl rfl)
theorem dX2_factOf_17 : decode cX2_factOf 17 = .ok (.iload_n 2, 1) := dk_28 (dk_at dksX2_factOf_0 17 rfl rfl)
theorem dX2_factOf_18 : decode cX2_factOf 18 = .ok (.iadd, 1) := dk_96 (dk_at dksX2_factOf_0 18 rfl rfl)
theorem dX2_factOf_19 : decode cX2_factOf 19 = .ok (.iaload, 1) := dk_46 (dk_at dksX2_factOf_0 19 rfl rfl)
theorem dX2_factOf_20 : decode cX2_factOf 20 = .ok (.ireturn, 1) := dk_172 (dk_at dksX2_factOf_0 20 rfl rfl)
abbrev cX2_fits : ByteArray := prog_25_method_117_code
def yX2_fits : MethodName := ⟨RX2, "fits", "(IIII)I"⟩
def dkwX2_fits_6 : List UInt8 := [160, 0, 10, 42, 182, 2, 97, 167, 0, 5, 16, 254, 172]
abbrev dktX2_fits_6 : List UInt8 := dkwX2_fits_6 ++ []
def dkwX2_fits_5 : List UInt8 := [161, 0, 8, 42, 180, 2, 88, 172, 21, 4, 154, 0, 10, 42, 180, 2, 85, 167, 0, 18, 21, 4, 4]
abbrev dktX2_fits_5 : List UInt8 := dkwX2_fits_5 ++ dktX2_fits_6
def dkwX2_fits_4 : List UInt8 := [153, 0, 14, 42, 21, 5, 21, 4, 16, 10, 100, 182, 2, 94, 132, 5, 1, 167, 255, 211, 21, 4, 16, 10]
abbrev dktX2_fits_4 : List UInt8 := dkwX2_fits_4 ++ dktX2_fits_5
def dkwX2_fits_3 : List UInt8 := [162, 0, 42, 42, 21, 5, 182, 2, 37, 42, 42, 182, 2, 22, 182, 2, 43, 87, 42, 182, 2, 91]
abbrev dktX2_fits_3 : List UInt8 := dkwX2_fits_3 ++ dktX2_fits_4
def dkwX2_fits_2 : List UInt8 := [180, 0, 162, 21, 5, 3, 79, 132, 5, 1, 167, 255, 238, 2, 54, 5, 21, 5, 42, 182, 1, 89]
abbrev dktX2_fits_2 : List UInt8 := dkwX2_fits_2 ++ dktX2_fits_3
def dkwX2_fits_1 : List UInt8 := [172, 42, 3, 181, 2, 85, 42, 16, 254, 181, 2, 88, 3, 54, 5, 21, 5, 16, 40, 162, 0, 17, 42]
abbrev dktX2_fits_1 : List UInt8 := dkwX2_fits_1 ++ dktX2_fits_2
def dkwX2_fits_0 : List UInt8 := [42, 3, 181, 0, 169, 42, 29, 182, 2, 76, 153, 0, 12, 42, 27, 28, 182, 2, 40, 154, 0, 6, 16, 254]
abbrev dktX2_fits_0 : List UInt8 := dkwX2_fits_0 ++ dktX2_fits_1
theorem dksX2_fits_0 : cX2_fits.data.toList.drop 0 = dktX2_fits_0 := by decide +kernel
theorem dksX2_fits_1 : cX2_fits.data.toList.drop 24 = dktX2_fits_1 := dk_seg dksX2_fits_0 24 rfl rfl
theorem dksX2_fits_2 : cX2_fits.data.toList.drop 47 = dktX2_fits_2 := dk_seg dksX2_fits_1 23 rfl rfl
theorem dksX2_fits_3 : cX2_fits.data.toList.drop 69 = dktX2_fits_3 := dk_seg dksX2_fits_2 22 rfl rfl
theorem dksX2_fits_4 : cX2_fits.data.toList.drop 91 = dktX2_fits_4 := dk_seg dksX2_fits_3 22 rfl rfl
theorem dksX2_fits_5 : cX2_fits.data.toList.drop 115 = dktX2_fits_5 := dk_seg dksX2_fits_4 24 rfl rfl
theorem dksX2_fits_6 : cX2_fits.data.toList.drop 138 = dktX2_fits_6 := dk_seg dksX2_fits_5 23 rfl rfl
theorem dX2_fits_0 : decode cX2_fits 0 = .ok (.aload_n 0, 1) := dk_42 (dk_at dksX2_fits_0 0 rfl rfl)
theorem dX2_fits_1 : decode cX2_fits 1 = .ok (.iconst 0, 1) := dk_3 (dk_at dksX2_fits_0 1 rfl rfl)
theorem dX2_fits_2 : decode cX2_fits 2 = .ok (.putfield 169, 3) := dk_181 0 169 (dk_at dksX2_fits_0 2 rfl rfl)
theorem dX2_fits_5 : decode cX2_fits 5 = .ok (.aload_n 0, 1) := dk_42 (dk_at dksX2_fits_0 5 rfl rfl)
theorem dX2_fits_6 : decode cX2_fits 6 = .ok (.iload_n 3, 1) := dk_29 (dk_at dksX2_fits_0 6 rfl rfl)
theorem dX2_fits_7 : decode cX2_fits 7 = .ok (.invokevirtual 588, 3) := dk_182 2 76 (dk_at dksX2_fits_0 7 rfl rfl)
theorem dX2_fits_10 : decode cX2_fits 10 = .ok (.ifCond .eq 12, 3) := dk_153 0 12 (dk_at dksX2_fits_0 10 rfl rfl)
theorem dX2_fits_13 : decode cX2_fits 13 = .ok (.aload_n 0, 1) := dk_42 (dk_at dksX2_fits_0 13 rfl rfl)
theorem dX2_fits_14 : decode cX2_fits 14 = .ok (.iload_n 1, 1) := dk_27 (dk_at dksX2_fits_0 14 rfl rfl)
theorem dX2_fits_15 : decode cX2_fits 15 = .ok (.iload_n 2, 1) := dk_28 (dk_at dksX2_fits_0 15 rfl rfl)
theorem dX2_fits_16 : decode cX2_fits 16 = .ok (.invokevirtual 552, 3) := dk_182 2 40 (dk_at dksX2_fits_0 16 rfl rfl)
theorem dX2_fits_19 : decode cX2_fits 19 = .ok (.ifCond .ne 6, 3) := dk_154 0 6 (dk_at dksX2_fits_0 19 rfl rfl)
theorem dX2_fits_22 : decode cX2_fits 22 = .ok (.bipush (-2), 2) := dk_16 254 (dk_at dksX2_fits_0 22 rfl rfl)
theorem dX2_fits_24 : decode cX2_fits 24 = .ok (.ireturn, 1) := dk_172 (dk_at dksX2_fits_1 0 rfl rfl)
theorem dX2_fits_25 : decode cX2_fits 25 = .ok (.aload_n 0, 1) := dk_42 (dk_at dksX2_fits_1 1 rfl rfl)
theorem dX2_fits_26 : decode cX2_fits 26 = .ok (.iconst 0, 1) := dk_3 (dk_at dksX2_fits_1 2 rfl rfl)
theorem dX2_fits_27 : decode cX2_fits 27 = .ok (.putfield 597, 3) := dk_181 2 85 (dk_at dksX2_fits_1 3 rfl rfl)
theorem dX2_fits_30 : decode cX2_fits 30 = .ok (.aload_n 0, 1) := dk_42 (dk_at dksX2_fits_1 6 rfl rfl)
theorem dX2_fits_31 : decode cX2_fits 31 = .ok (.bipush (-2), 2) := dk_16 254 (dk_at dksX2_fits_1 7 rfl rfl)
theorem dX2_fits_33 : decode cX2_fits 33 = .ok (.putfield 600, 3) := dk_181 2 88 (dk_at dksX2_fits_1 9 rfl rfl)
theorem dX2_fits_36 : decode cX2_fits 36 = .ok (.iconst 0, 1) := dk_3 (dk_at dksX2_fits_1 12 rfl rfl)
theorem dX2_fits_37 : decode cX2_fits 37 = .ok (.istore 5, 2) := dk_54 5 (dk_at dksX2_fits_1 13 rfl rfl)
theorem dX2_fits_39 : decode cX2_fits 39 = .ok (.iload 5, 2) := dk_21 5 (dk_at dksX2_fits_1 15 rfl rfl)
theorem dX2_fits_41 : decode cX2_fits 41 = .ok (.bipush 40, 2) := dk_16 40 (dk_at dksX2_fits_1 17 rfl rfl)
theorem dX2_fits_43 : decode cX2_fits 43 = .ok (.if_icmp .ge 17, 3) := dk_162 0 17 (dk_at dksX2_fits_1 19 rfl rfl)
theorem dX2_fits_46 : decode cX2_fits 46 = .ok (.aload_n 0, 1) := dk_42 (dk_at dksX2_fits_1 22 rfl rfl)
theorem dX2_fits_47 : decode cX2_fits 47 = .ok (.getfield 162, 3) := dk_180 0 162 (dk_at dksX2_fits_2 0 rfl rfl)
theorem dX2_fits_50 : decode cX2_fits 50 = .ok (.iload 5, 2) := dk_21 5 (dk_at dksX2_fits_2 3 rfl rfl)
theorem dX2_fits_52 : decode cX2_fits 52 = .ok (.iconst 0, 1) := dk_3 (dk_at dksX2_fits_2 5 rfl rfl)
theorem dX2_fits_53 : decode cX2_fits 53 = .ok (.iastore, 1) := dk_79 (dk_at dksX2_fits_2 6 rfl rfl)
theorem dX2_fits_54 : decode cX2_fits 54 = .ok (.iinc 5 1, 3) := dk_132 5 1 (dk_at dksX2_fits_2 7 rfl rfl)
theorem dX2_fits_57 : decode cX2_fits 57 = .ok (.goto (-18), 3) := dk_167 255 238 (dk_at dksX2_fits_2 10 rfl rfl)
theorem dX2_fits_60 : decode cX2_fits 60 = .ok (.iconst (-1), 1) := dk_2 (dk_at dksX2_fits_2 13 rfl rfl)
theorem dX2_fits_61 : decode cX2_fits 61 = .ok (.istore 5, 2) := dk_54 5 (dk_at dksX2_fits_2 14 rfl rfl)
theorem dX2_fits_63 : decode cX2_fits 63 = .ok (.iload 5, 2) := dk_21 5 (dk_at dksX2_fits_2 16 rfl rfl)
theorem dX2_fits_65 : decode cX2_fits 65 = .ok (.aload_n 0, 1) := dk_42 (dk_at dksX2_fits_2 18 rfl rfl)
theorem dX2_fits_66 : decode cX2_fits 66 = .ok (.invokevirtual 345, 3) := dk_182 1 89 (dk_at dksX2_fits_2 19 rfl rfl)
theorem dX2_fits_69 : decode cX2_fits 69 = .ok (.if_icmp .ge 42, 3) := dk_162 0 42 (dk_at dksX2_fits_3 0 rfl rfl)
theorem dX2_fits_72 : decode cX2_fits 72 = .ok (.aload_n 0, 1) := dk_42 (dk_at dksX2_fits_3 3 rfl rfl)
theorem dX2_fits_73 : decode cX2_fits 73 = .ok (.iload 5, 2) := dk_21 5 (dk_at dksX2_fits_3 4 rfl rfl)
theorem dX2_fits_75 : decode cX2_fits 75 = .ok (.invokevirtual 549, 3) := dk_182 2 37 (dk_at dksX2_fits_3 6 rfl rfl)
theorem dX2_fits_78 : decode cX2_fits 78 = .ok (.aload_n 0, 1) := dk_42 (dk_at dksX2_fits_3 9 rfl rfl)
theorem dX2_fits_79 : decode cX2_fits 79 = .ok (.aload_n 0, 1) := dk_42 (dk_at dksX2_fits_3 10 rfl rfl)
theorem dX2_fits_80 : decode cX2_fits 80 = .ok (.invokevirtual 534, 3) := dk_182 2 22 (dk_at dksX2_fits_3 11 rfl rfl)
theorem dX2_fits_83 : decode cX2_fits 83 = .ok (.invokevirtual 555, 3) := dk_182 2 43 (dk_at dksX2_fits_3 14 rfl rfl)
theorem dX2_fits_86 : decode cX2_fits 86 = .ok (.pop, 1) := dk_87 (dk_at dksX2_fits_3 17 rfl rfl)
theorem dX2_fits_87 : decode cX2_fits 87 = .ok (.aload_n 0, 1) := dk_42 (dk_at dksX2_fits_3 18 rfl rfl)
theorem dX2_fits_88 : decode cX2_fits 88 = .ok (.invokevirtual 603, 3) := dk_182 2 91 (dk_at dksX2_fits_3 19 rfl rfl)
theorem dX2_fits_91 : decode cX2_fits 91 = .ok (.ifCond .eq 14, 3) := dk_153 0 14 (dk_at dksX2_fits_4 0 rfl rfl)
theorem dX2_fits_94 : decode cX2_fits 94 = .ok (.aload_n 0, 1) := dk_42 (dk_at dksX2_fits_4 3 rfl rfl)
theorem dX2_fits_95 : decode cX2_fits 95 = .ok (.iload 5, 2) := dk_21 5 (dk_at dksX2_fits_4 4 rfl rfl)
theorem dX2_fits_97 : decode cX2_fits 97 = .ok (.iload 4, 2) := dk_21 4 (dk_at dksX2_fits_4 6 rfl rfl)
theorem dX2_fits_99 : decode cX2_fits 99 = .ok (.bipush 10, 2) := dk_16 10 (dk_at dksX2_fits_4 8 rfl rfl)
theorem dX2_fits_101 : decode cX2_fits 101 = .ok (.isub, 1) := dk_100 (dk_at dksX2_fits_4 10 rfl rfl)
theorem dX2_fits_102 : decode cX2_fits 102 = .ok (.invokevirtual 606, 3) := dk_182 2 94 (dk_at dksX2_fits_4 11 rfl rfl)
theorem dX2_fits_105 : decode cX2_fits 105 = .ok (.iinc 5 1, 3) := dk_132 5 1 (dk_at dksX2_fits_4 14 rfl rfl)
theorem dX2_fits_108 : decode cX2_fits 108 = .ok (.goto (-45), 3) := dk_167 255 211 (dk_at dksX2_fits_4 17 rfl rfl)
theorem dX2_fits_111 : decode cX2_fits 111 = .ok (.iload 4, 2) := dk_21 4 (dk_at dksX2_fits_4 20 rfl rfl)
theorem dX2_fits_113 : decode cX2_fits 113 = .ok (.bipush 10, 2) := dk_16 10 (dk_at dksX2_fits_4 22 rfl rfl)
theorem dX2_fits_115 : decode cX2_fits 115 = .ok (.if_icmp .lt 8, 3) := dk_161 0 8 (dk_at dksX2_fits_5 0 rfl rfl)
theorem dX2_fits_118 : decode cX2_fits 118 = .ok (.aload_n 0, 1) := dk_42 (dk_at dksX2_fits_5 3 rfl rfl)
theorem dX2_fits_119 : decode cX2_fits 119 = .ok (.getfield 600, 3) := dk_180 2 88 (dk_at dksX2_fits_5 4 rfl rfl)
theorem dX2_fits_122 : decode cX2_fits 122 = .ok (.ireturn, 1) := dk_172 (dk_at dksX2_fits_5 7 rfl rfl)
theorem dX2_fits_123 : decode cX2_fits 123 = .ok (.iload 4, 2) := dk_21 4 (dk_at dksX2_fits_5 8 rfl rfl)
theorem dX2_fits_125 : decode cX2_fits 125 = .ok (.ifCond .ne 10, 3) := dk_154 0 10 (dk_at dksX2_fits_5 10 rfl rfl)
theorem dX2_fits_128 : decode cX2_fits 128 = .ok (.aload_n 0, 1) := dk_42 (dk_at dksX2_fits_5 13 rfl rfl)
theorem dX2_fits_129 : decode cX2_fits 129 = .ok (.getfield 597, 3) := dk_180 2 85 (dk_at dksX2_fits_5 14 rfl rfl)
theorem dX2_fits_132 : decode cX2_fits 132 = .ok (.goto 18, 3) := dk_167 0 18 (dk_at dksX2_fits_5 17 rfl rfl)
theorem dX2_fits_135 : decode cX2_fits 135 = .ok (.iload 4, 2) := dk_21 4 (dk_at dksX2_fits_5 20 rfl rfl)
theorem dX2_fits_137 : decode cX2_fits 137 = .ok (.iconst 1, 1) := dk_4 (dk_at dksX2_fits_5 22 rfl rfl)
theorem dX2_fits_138 : decode cX2_fits 138 = .ok (.if_icmp .ne 10, 3) := dk_160 0 10 (dk_at dksX2_fits_6 0 rfl rfl)
theorem dX2_fits_141 : decode cX2_fits 141 = .ok (.aload_n 0, 1) := dk_42 (dk_at dksX2_fits_6 3 rfl rfl)
theorem dX2_fits_142 : decode cX2_fits 142 = .ok (.invokevirtual 609, 3) := dk_182 2 97 (dk_at dksX2_fits_6 4 rfl rfl)
theorem dX2_fits_145 : decode cX2_fits 145 = .ok (.goto 5, 3) := dk_167 0 5 (dk_at dksX2_fits_6 7 rfl rfl)
theorem dX2_fits_148 : decode cX2_fits 148 = .ok (.bipush (-2), 2) := dk_16 254 (dk_at dksX2_fits_6 10 rfl rfl)
theorem dX2_fits_150 : decode cX2_fits 150 = .ok (.ireturn, 1) := dk_172 (dk_at dksX2_fits_6 12 rfl rfl)
abbrev cX2_isSo : ByteArray := prog_25_method_114_code
def yX2_isSo : MethodName := ⟨RX2, "isSo", "()Z"⟩
def dkwX2_isSo_2 : List UInt8 := [3, 172, 132, 1, 1, 167, 255, 205, 4, 172]
abbrev dktX2_isSo_2 : List UInt8 := dkwX2_isSo_2 ++ []
def dkwX2_isSo_1 : List UInt8 := [160, 0, 12, 42, 180, 0, 132, 28, 46, 167, 0, 4, 2, 62, 29, 42, 27, 4, 182, 2, 82, 159, 0, 5]
abbrev dktX2_isSo_1 : List UInt8 := dkwX2_isSo_1 ++ dktX2_isSo_2
def dkwX2_isSo_0 : List UInt8 := [3, 60, 27, 42, 182, 2, 79, 162, 0, 49, 42, 27, 3, 182, 2, 82, 61, 42, 180, 0, 129, 28, 46, 4]
abbrev dktX2_isSo_0 : List UInt8 := dkwX2_isSo_0 ++ dktX2_isSo_1
theorem dksX2_isSo_0 : cX2_isSo.data.toList.drop 0 = dktX2_isSo_0 := by decide +kernel
theorem dksX2_isSo_1 : cX2_isSo.data.toList.drop 24 = dktX2_isSo_1 := dk_seg dksX2_isSo_0 24 rfl rfl
theorem dksX2_isSo_2 : cX2_isSo.data.toList.drop 48 = dktX2_isSo_2 := dk_seg dksX2_isSo_1 24 rfl rfl
theorem dX2_isSo_0 : decode cX2_isSo 0 = .ok (.iconst 0, 1) := dk_3 (dk_at dksX2_isSo_0 0 rfl rfl)
theorem dX2_isSo_1 : decode cX2_isSo 1 = .ok (.istore_n 1, 1) := dk_60 (dk_at dksX2_isSo_0 1 rfl rfl)
theorem dX2_isSo_2 : decode cX2_isSo 2 = .ok (.iload_n 1, 1) := dk_27 (dk_at dksX2_isSo_0 2 rfl rfl)
theorem dX2_isSo_3 : decode cX2_isSo 3 = .ok (.aload_n 0, 1) := dk_42 (dk_at dksX2_isSo_0 3 rfl rfl)
theorem dX2_isSo_4 : decode cX2_isSo 4 = .ok (.invokevirtual 591, 3) := dk_182 2 79 (dk_at dksX2_isSo_0 4 rfl rfl)
theorem dX2_isSo_7 : decode cX2_isSo 7 = .ok (.if_icmp .ge 49, 3) := dk_162 0 49 (dk_at dksX2_isSo_0 7 rfl rfl)
theorem dX2_isSo_10 : decode cX2_isSo 10 = .ok (.aload_n 0, 1) := dk_42 (dk_at dksX2_isSo_0 10 rfl rfl)
theorem dX2_isSo_11 : decode cX2_isSo 11 = .ok (.iload_n 1, 1) := dk_27 (dk_at dksX2_isSo_0 11 rfl rfl)
theorem dX2_isSo_12 : decode cX2_isSo 12 = .ok (.iconst 0, 1) := dk_3 (dk_at dksX2_isSo_0 12 rfl rfl)
theorem dX2_isSo_13 : decode cX2_isSo 13 = .ok (.invokevirtual 594, 3) := dk_182 2 82 (dk_at dksX2_isSo_0 13 rfl rfl)
theorem dX2_isSo_16 : decode cX2_isSo 16 = .ok (.istore_n 2, 1) := dk_61 (dk_at dksX2_isSo_0 16 rfl rfl)
theorem dX2_isSo_17 : decode cX2_isSo 17 = .ok (.aload_n 0, 1) := dk_42 (dk_at dksX2_isSo_0 17 rfl rfl)
theorem dX2_isSo_18 : decode cX2_isSo 18 = .ok (.getfield 129, 3) := dk_180 0 129 (dk_at dksX2_isSo_0 18 rfl rfl)
theorem dX2_isSo_21 : decode cX2_isSo 21 = .ok (.iload_n 2, 1) := dk_28 (dk_at dksX2_isSo_0 21 rfl rfl)
theorem dX2_isSo_22 : decode cX2_isSo 22 = .ok (.iaload, 1) := dk_46 (dk_at dksX2_isSo_0 22 rfl rfl)
theorem dX2_isSo_23 : decode cX2_isSo 23 = .ok (.iconst 1, 1) := dk_4 (dk_at dksX2_isSo_0 23 rfl rfl)
theorem dX2_isSo_24 : decode cX2_isSo 24 = .ok (.if_icmp .ne 12, 3) := dk_160 0 12 (dk_at dksX2_isSo_1 0 rfl rfl)
theorem dX2_isSo_27 : decode cX2_isSo 27 = .ok (.aload_n 0, 1) := dk_42 (dk_at dksX2_isSo_1 3 rfl rfl)
theorem dX2_isSo_28 : decode cX2_isSo 28 = .ok (.getfield 132, 3) := dk_180 0 132 (dk_at dksX2_isSo_1 4 rfl rfl)
theorem dX2_isSo_31 : decode cX2_isSo 31 = .ok (.iload_n 2, 1) := dk_28 (dk_at dksX2_isSo_1 7 rfl rfl)
theorem dX2_isSo_32 : decode cX2_isSo 32 = .ok (.iaload, 1) := dk_46 (dk_at dksX2_isSo_1 8 rfl rfl)
theorem dX2_isSo_33 : decode cX2_isSo 33 = .ok (.goto 4, 3) := dk_167 0 4 (dk_at dksX2_isSo_1 9 rfl rfl)
theorem dX2_isSo_36 : decode cX2_isSo 36 = .ok (.iconst (-1), 1) := dk_2 (dk_at dksX2_isSo_1 12 rfl rfl)
theorem dX2_isSo_37 : decode cX2_isSo 37 = .ok (.istore_n 3, 1) := dk_62 (dk_at dksX2_isSo_1 13 rfl rfl)
theorem dX2_isSo_38 : decode cX2_isSo 38 = .ok (.iload_n 3, 1) := dk_29 (dk_at dksX2_isSo_1 14 rfl rfl)
theorem dX2_isSo_39 : decode cX2_isSo 39 = .ok (.aload_n 0, 1) := dk_42 (dk_at dksX2_isSo_1 15 rfl rfl)
theorem dX2_isSo_40 : decode cX2_isSo 40 = .ok (.iload_n 1, 1) := dk_27 (dk_at dksX2_isSo_1 16 rfl rfl)
theorem dX2_isSo_41 : decode cX2_isSo 41 = .ok (.iconst 1, 1) := dk_4 (dk_at dksX2_isSo_1 17 rfl rfl)
theorem dX2_isSo_42 : decode cX2_isSo 42 = .ok (.invokevirtual 594, 3) := dk_182 2 82 (dk_at dksX2_isSo_1 18 rfl rfl)
theorem dX2_isSo_45 : decode cX2_isSo 45 = .ok (.if_icmp .eq 5, 3) := dk_159 0 5 (dk_at dksX2_isSo_1 21 rfl rfl)
theorem dX2_isSo_48 : decode cX2_isSo 48 = .ok (.iconst 0, 1) := dk_3 (dk_at dksX2_isSo_2 0 rfl rfl)
theorem dX2_isSo_49 : decode cX2_isSo 49 = .ok (.ireturn, 1) := dk_172 (dk_at dksX2_isSo_2 1 rfl rfl)
theorem dX2_isSo_50 : decode cX2_isSo 50 = .ok (.iinc 1 1, 3) := dk_132 1 1 (dk_at dksX2_isSo_2 2 rfl rfl)
theorem dX2_isSo_53 : decode cX2_isSo 53 = .ok (.goto (-51), 3) := dk_167 255 205 (dk_at dksX2_isSo_2 5 rfl rfl)
theorem dX2_isSo_56 : decode cX2_isSo 56 = .ok (.iconst 1, 1) := dk_4 (dk_at dksX2_isSo_2 8 rfl rfl)
theorem dX2_isSo_57 : decode cX2_isSo 57 = .ok (.ireturn, 1) := dk_172 (dk_at dksX2_isSo_2 9 rfl rfl)
abbrev cX2_noteFit : ByteArray := prog_25_method_115_code
def yX2_noteFit : MethodName := ⟨RX2, "noteFit", "(II)V"⟩
def dkwX2_noteFit_2 : List UInt8 := [180, 0, 129, 29, 46, 4, 160, 0, 7, 4, 167, 0, 4, 3, 96, 79, 132, 3, 1, 167, 255, 223, 177]
abbrev dktX2_noteFit_2 : List UInt8 := dkwX2_noteFit_2 ++ []
def dkwX2_noteFit_1 : List UInt8 := [180, 2, 85, 4, 96, 181, 2, 85, 3, 62, 29, 16, 40, 162, 0, 33, 42, 180, 0, 162, 29, 92, 46, 42]
abbrev dktX2_noteFit_1 : List UInt8 := dkwX2_noteFit_1 ++ dktX2_noteFit_2
def dkwX2_noteFit_0 : List UInt8 := [42, 42, 180, 2, 85, 28, 160, 0, 7, 27, 167, 0, 7, 42, 180, 2, 88, 181, 2, 88, 42, 89]
abbrev dktX2_noteFit_0 : List UInt8 := dkwX2_noteFit_0 ++ dktX2_noteFit_1
theorem dksX2_noteFit_0 : cX2_noteFit.data.toList.drop 0 = dktX2_noteFit_0 := by decide +kernel
theorem dksX2_noteFit_1 : cX2_noteFit.data.toList.drop 22 = dktX2_noteFit_1 := dk_seg dksX2_noteFit_0 22 rfl rfl
theorem dksX2_noteFit_2 : cX2_noteFit.data.toList.drop 46 = dktX2_noteFit_2 := dk_seg dksX2_noteFit_1 24 rfl rfl
theorem dX2_noteFit_0 : decode cX2_noteFit 0 = .ok (.aload_n 0, 1) := dk_42 (dk_at dksX2_noteFit_0 0 rfl rfl)
theorem dX2_noteFit_1 : decode cX2_noteFit 1 = .ok (.aload_n 0, 1) := dk_42 (dk_at dksX2_noteFit_0 1 rfl rfl)
theorem dX2_noteFit_2 : decode cX2_noteFit 2 = .ok (.getfield 597, 3) := dk_180 2 85 (dk_at dksX2_noteFit_0 2 rfl rfl)
theorem dX2_noteFit_5 : decode cX2_noteFit 5 = .ok (.iload_n 2, 1) := dk_28 (dk_at dksX2_noteFit_0 5 rfl rfl)
theorem dX2_noteFit_6 : decode cX2_noteFit 6 = .ok (.if_icmp .ne 7, 3) := dk_160 0 7 (dk_at dksX2_noteFit_0 6 rfl rfl)
theorem dX2_noteFit_9 : decode cX2_noteFit 9 = .ok (.iload_n 1, 1) := dk_27 (dk_at dksX2_noteFit_0 9 rfl rfl)
theorem dX2_noteFit_10 : decode cX2_noteFit 10 = .ok (.goto 7, 3) := dk_167 0 7 (dk_at dksX2_noteFit_0 10 rfl rfl)
theorem dX2_noteFit_13 : decode cX2_noteFit 13 = .ok (.aload_n 0, 1) := dk_42 (dk_at dksX2_noteFit_0 13 rfl rfl)
theorem dX2_noteFit_14 : decode cX2_noteFit 14 = .ok (.getfield 600, 3) := dk_180 2 88 (dk_at dksX2_noteFit_0 14 rfl rfl)
theorem dX2_noteFit_17 : decode cX2_noteFit 17 = .ok (.putfield 600, 3) := dk_181 2 88 (dk_at dksX2_noteFit_0 17 rfl rfl)
theorem dX2_noteFit_20 : decode cX2_noteFit 20 = .ok (.aload_n 0, 1) := dk_42 (dk_at dksX2_noteFit_0 20 rfl rfl)
theorem dX2_noteFit_21 : decode cX2_noteFit 21 = .ok (.dup, 1) := dk_89 (dk_at dksX2_noteFit_0 21 rfl rfl)
theorem dX2_noteFit_22 : decode cX2_noteFit 22 = .ok (.getfield 597, 3) := dk_180 2 85 (dk_at dksX2_noteFit_1 0 rfl rfl)
theorem dX2_noteFit_25 : decode cX2_noteFit 25 = .ok (.iconst 1, 1) := dk_4 (dk_at dksX2_noteFit_1 3 rfl rfl)
theorem dX2_noteFit_26 : decode cX2_noteFit 26 = .ok (.iadd, 1) := dk_96 (dk_at dksX2_noteFit_1 4 rfl rfl)
theorem dX2_noteFit_27 : decode cX2_noteFit 27 = .ok (.putfield 597, 3) := dk_181 2 85 (dk_at dksX2_noteFit_1 5 rfl rfl)
theorem dX2_noteFit_30 : decode cX2_noteFit 30 = .ok (.iconst 0, 1) := dk_3 (dk_at dksX2_noteFit_1 8 rfl rfl)
theorem dX2_noteFit_31 : decode cX2_noteFit 31 = .ok (.istore_n 3, 1) := dk_62 (dk_at dksX2_noteFit_1 9 rfl rfl)
theorem dX2_noteFit_32 : decode cX2_noteFit 32 = .ok (.iload_n 3, 1) := dk_29 (dk_at dksX2_noteFit_1 10 rfl rfl)
theorem dX2_noteFit_33 : decode cX2_noteFit 33 = .ok (.bipush 40, 2) := dk_16 40 (dk_at dksX2_noteFit_1 11 rfl rfl)
theorem dX2_noteFit_35 : decode cX2_noteFit 35 = .ok (.if_icmp .ge 33, 3) := dk_162 0 33 (dk_at dksX2_noteFit_1 13 rfl rfl)
theorem dX2_noteFit_38 : decode cX2_noteFit 38 = .ok (.aload_n 0, 1) := dk_42 (dk_at dksX2_noteFit_1 16 rfl rfl)
theorem dX2_noteFit_39 : decode cX2_noteFit 39 = .ok (.getfield 162, 3) := dk_180 0 162 (dk_at dksX2_noteFit_1 17 rfl rfl)
theorem dX2_noteFit_42 : decode cX2_noteFit 42 = .ok (.iload_n 3, 1) := dk_29 (dk_at dksX2_noteFit_1 20 rfl rfl)
theorem dX2_noteFit_43 : decode cX2_noteFit 43 = .ok (.dup2, 1) := dk_92 (dk_at dksX2_noteFit_1 21 rfl rfl)
theorem dX2_noteFit_44 : decode cX2_noteFit 44 = .ok (.iaload, 1) := dk_46 (dk_at dksX2_noteFit_1 22 rfl rfl)
theorem dX2_noteFit_45 : decode cX2_noteFit 45 = .ok (.aload_n 0, 1) := dk_42 (dk_at dksX2_noteFit_1 23 rfl rfl)
theorem dX2_noteFit_46 : decode cX2_noteFit 46 = .ok (.getfield 129, 3) := dk_180 0 129 (dk_at dksX2_noteFit_2 0 rfl rfl)
theorem dX2_noteFit_49 : decode cX2_noteFit 49 = .ok (.iload_n 3, 1) := dk_29 (dk_at dksX2_noteFit_2 3 rfl rfl)
theorem dX2_noteFit_50 : decode cX2_noteFit 50 = .ok (.iaload, 1) := dk_46 (dk_at dksX2_noteFit_2 4 rfl rfl)
theorem dX2_noteFit_51 : decode cX2_noteFit 51 = .ok (.iconst 1, 1) := dk_4 (dk_at dksX2_noteFit_2 5 rfl rfl)
theorem dX2_noteFit_52 : decode cX2_noteFit 52 = .ok (.if_icmp .ne 7, 3) := dk_160 0 7 (dk_at dksX2_noteFit_2 6 rfl rfl)
theorem dX2_noteFit_55 : decode cX2_noteFit 55 = .ok (.iconst 1, 1) := dk_4 (dk_at dksX2_noteFit_2 9 rfl rfl)
theorem dX2_noteFit_56 : decode cX2_noteFit 56 = .ok (.goto 4, 3) := dk_167 0 4 (dk_at dksX2_noteFit_2 10 rfl rfl)
theorem dX2_noteFit_59 : decode cX2_noteFit 59 = .ok (.iconst 0, 1) := dk_3 (dk_at dksX2_noteFit_2 13 rfl rfl)
theorem dX2_noteFit_60 : decode cX2_noteFit 60 = .ok (.iadd, 1) := dk_96 (dk_at dksX2_noteFit_2 14 rfl rfl)
theorem dX2_noteFit_61 : decode cX2_noteFit 61 = .ok (.iastore, 1) := dk_79 (dk_at dksX2_noteFit_2 15 rfl rfl)
theorem dX2_noteFit_62 : decode cX2_noteFit 62 = .ok (.iinc 3 1, 3) := dk_132 3 1 (dk_at dksX2_noteFit_2 16 rfl rfl)
theorem dX2_noteFit_65 : decode cX2_noteFit 65 = .ok (.goto (-33), 3) := dk_167 255 223 (dk_at dksX2_noteFit_2 19 rfl rfl)
theorem dX2_noteFit_68 : decode cX2_noteFit 68 = .ok (.return_, 1) := dk_177 (dk_at dksX2_noteFit_2 22 rfl rfl)
abbrev cX2_askWhat : ByteArray := prog_25_method_116_code
def yX2_askWhat : MethodName := ⟨RX2, "askWhat", "()I"⟩
def dkwX2_askWhat_3 : List UInt8 := [27, 172]
abbrev dktX2_askWhat_3 : List UInt8 := dkwX2_askWhat_3 ++ []
def dkwX2_askWhat_2 : List UInt8 := [182, 2, 25, 4, 163, 0, 14, 21, 4, 28, 162, 0, 8, 29, 60, 21, 4, 61, 132, 3, 1, 167, 255, 195]
abbrev dktX2_askWhat_2 : List UInt8 := dkwX2_askWhat_2 ++ dktX2_askWhat_3
def dkwX2_askWhat_1 : List UInt8 := [180, 0, 162, 29, 46, 42, 180, 2, 85, 42, 180, 0, 162, 29, 46, 100, 184, 0, 243, 54, 4, 42, 29, 3]
abbrev dktX2_askWhat_1 : List UInt8 := dkwX2_askWhat_1 ++ dktX2_askWhat_2
def dkwX2_askWhat_0 : List UInt8 := [2, 60, 19, 1, 189, 61, 3, 62, 29, 42, 182, 2, 22, 162, 0, 59, 42, 180, 2, 85, 158, 0, 52, 42]
abbrev dktX2_askWhat_0 : List UInt8 := dkwX2_askWhat_0 ++ dktX2_askWhat_1
theorem dksX2_askWhat_0 : cX2_askWhat.data.toList.drop 0 = dktX2_askWhat_0 := by decide +kernel
theorem dksX2_askWhat_1 : cX2_askWhat.data.toList.drop 24 = dktX2_askWhat_1 := dk_seg dksX2_askWhat_0 24 rfl rfl
theorem dksX2_askWhat_2 : cX2_askWhat.data.toList.drop 48 = dktX2_askWhat_2 := dk_seg dksX2_askWhat_1 24 rfl rfl
theorem dksX2_askWhat_3 : cX2_askWhat.data.toList.drop 72 = dktX2_askWhat_3 := dk_seg dksX2_askWhat_2 24 rfl rfl
theorem dX2_askWhat_0 : decode cX2_askWhat 0 = .ok (.iconst (-1), 1) := dk_2 (dk_at dksX2_askWhat_0 0 rfl rfl)
theorem dX2_askWhat_1 : decode cX2_askWhat 1 = .ok (.istore_n 1, 1) := dk_60 (dk_at dksX2_askWhat_0 1 rfl rfl)
theorem dX2_askWhat_2 : decode cX2_askWhat 2 = .ok (.ldc_w 445, 3) := dk_19 1 189 (dk_at dksX2_askWhat_0 2 rfl rfl)
theorem dX2_askWhat_5 : decode cX2_askWhat 5 = .ok (.istore_n 2, 1) := dk_61 (dk_at dksX2_askWhat_0 5 rfl rfl)
theorem dX2_askWhat_6 : decode cX2_askWhat 6 = .ok (.iconst 0, 1) := dk_3 (dk_at dksX2_askWhat_0 6 rfl rfl)
theorem dX2_askWhat_7 : decode cX2_askWhat 7 = .ok (.istore_n 3, 1) := dk_62 (dk_at dksX2_askWhat_0 7 rfl rfl)
theorem dX2_askWhat_8 : decode cX2_askWhat 8 = .ok (.iload_n 3, 1) := dk_29 (dk_at dksX2_askWhat_0 8 rfl rfl)
theorem dX2_askWhat_9 : decode cX2_askWhat 9 = .ok (.aload_n 0, 1) := dk_42 (dk_at dksX2_askWhat_0 9 rfl rfl)
theorem dX2_askWhat_10 : decode cX2_askWhat 10 = .ok (.invokevirtual 534, 3) := dk_182 2 22 (dk_at dksX2_askWhat_0 10 rfl rfl)
theorem dX2_askWhat_13 : decode cX2_askWhat 13 = .ok (.if_icmp .ge 59, 3) := dk_162 0 59 (dk_at dksX2_askWhat_0 13 rfl rfl)
theorem dX2_askWhat_16 : decode cX2_askWhat 16 = .ok (.aload_n 0, 1) := dk_42 (dk_at dksX2_askWhat_0 16 rfl rfl)
theorem dX2_askWhat_17 : decode cX2_askWhat 17 = .ok (.getfield 597, 3) := dk_180 2 85 (dk_at dksX2_askWhat_0 17 rfl rfl)
theorem dX2_askWhat_20 : decode cX2_askWhat 20 = .ok (.ifCond .le 52, 3) := dk_158 0 52 (dk_at dksX2_askWhat_0 20 rfl rfl)
theorem dX2_askWhat_23 : decode cX2_askWhat 23 = .ok (.aload_n 0, 1) := dk_42 (dk_at dksX2_askWhat_0 23 rfl rfl)
theorem dX2_askWhat_24 : decode cX2_askWhat 24 = .ok (.getfield 162, 3) := dk_180 0 162 (dk_at dksX2_askWhat_1 0 rfl rfl)
theorem dX2_askWhat_27 : decode cX2_askWhat 27 = .ok (.iload_n 3, 1) := dk_29 (dk_at dksX2_askWhat_1 3 rfl rfl)
theorem dX2_askWhat_28 : decode cX2_askWhat 28 = .ok (.iaload, 1) := dk_46 (dk_at dksX2_askWhat_1 4 rfl rfl)
theorem dX2_askWhat_29 : decode cX2_askWhat 29 = .ok (.aload_n 0, 1) := dk_42 (dk_at dksX2_askWhat_1 5 rfl rfl)
theorem dX2_askWhat_30 : decode cX2_askWhat 30 = .ok (.getfield 597, 3) := dk_180 2 85 (dk_at dksX2_askWhat_1 6 rfl rfl)
theorem dX2_askWhat_33 : decode cX2_askWhat 33 = .ok (.aload_n 0, 1) := dk_42 (dk_at dksX2_askWhat_1 9 rfl rfl)
theorem dX2_askWhat_34 : decode cX2_askWhat 34 = .ok (.getfield 162, 3) := dk_180 0 162 (dk_at dksX2_askWhat_1 10 rfl rfl)
theorem dX2_askWhat_37 : decode cX2_askWhat 37 = .ok (.iload_n 3, 1) := dk_29 (dk_at dksX2_askWhat_1 13 rfl rfl)
theorem dX2_askWhat_38 : decode cX2_askWhat 38 = .ok (.iaload, 1) := dk_46 (dk_at dksX2_askWhat_1 14 rfl rfl)
theorem dX2_askWhat_39 : decode cX2_askWhat 39 = .ok (.isub, 1) := dk_100 (dk_at dksX2_askWhat_1 15 rfl rfl)
theorem dX2_askWhat_40 : decode cX2_askWhat 40 = .ok (.invokestatic 243, 3) := dk_184 0 243 (dk_at dksX2_askWhat_1 16 rfl rfl)
theorem dX2_askWhat_43 : decode cX2_askWhat 43 = .ok (.istore 4, 2) := dk_54 4 (dk_at dksX2_askWhat_1 19 rfl rfl)
theorem dX2_askWhat_45 : decode cX2_askWhat 45 = .ok (.aload_n 0, 1) := dk_42 (dk_at dksX2_askWhat_1 21 rfl rfl)
theorem dX2_askWhat_46 : decode cX2_askWhat 46 = .ok (.iload_n 3, 1) := dk_29 (dk_at dksX2_askWhat_1 22 rfl rfl)
theorem dX2_askWhat_47 : decode cX2_askWhat 47 = .ok (.iconst 0, 1) := dk_3 (dk_at dksX2_askWhat_1 23 rfl rfl)
theorem dX2_askWhat_48 : decode cX2_askWhat 48 = .ok (.invokevirtual 537, 3) := dk_182 2 25 (dk_at dksX2_askWhat_2 0 rfl rfl)
theorem dX2_askWhat_51 : decode cX2_askWhat 51 = .ok (.iconst 1, 1) := dk_4 (dk_at dksX2_askWhat_2 3 rfl rfl)
theorem dX2_askWhat_52 : decode cX2_askWhat 52 = .ok (.if_icmp .gt 14, 3) := dk_163 0 14 (dk_at dksX2_askWhat_2 4 rfl rfl)
theorem dX2_askWhat_55 : decode cX2_askWhat 55 = .ok (.iload 4, 2) := dk_21 4 (dk_at dksX2_askWhat_2 7 rfl rfl)
theorem dX2_askWhat_57 : decode cX2_askWhat 57 = .ok (.iload_n 2, 1) := dk_28 (dk_at dksX2_askWhat_2 9 rfl rfl)
theorem dX2_askWhat_58 : decode cX2_askWhat 58 = .ok (.if_icmp .ge 8, 3) := dk_162 0 8 (dk_at dksX2_askWhat_2 10 rfl rfl)
theorem dX2_askWhat_61 : decode cX2_askWhat 61 = .ok (.iload_n 3, 1) := dk_29 (dk_at dksX2_askWhat_2 13 rfl rfl)
theorem dX2_askWhat_62 : decode cX2_askWhat 62 = .ok (.istore_n 1, 1) := dk_60 (dk_at dksX2_askWhat_2 14 rfl rfl)
theorem dX2_askWhat_63 : decode cX2_askWhat 63 = .ok (.iload 4, 2) := dk_21 4 (dk_at dksX2_askWhat_2 15 rfl rfl)
theorem dX2_askWhat_65 : decode cX2_askWhat 65 = .ok (.istore_n 2, 1) := dk_61 (dk_at dksX2_askWhat_2 17 rfl rfl)
theorem dX2_askWhat_66 : decode cX2_askWhat 66 = .ok (.iinc 3 1, 3) := dk_132 3 1 (dk_at dksX2_askWhat_2 18 rfl rfl)
theorem dX2_askWhat_69 : decode cX2_askWhat 69 = .ok (.goto (-61), 3) := dk_167 255 195 (dk_at dksX2_askWhat_2 21 rfl rfl)
theorem dX2_askWhat_72 : decode cX2_askWhat 72 = .ok (.iload_n 1, 1) := dk_27 (dk_at dksX2_askWhat_3 0 rfl rfl)
theorem dX2_askWhat_73 : decode cX2_askWhat 73 = .ok (.ireturn, 1) := dk_172 (dk_at dksX2_askWhat_3 1 rfl rfl)
abbrev cX2_drawn : ByteArray := prog_25_method_120_code
def yX2_drawn : MethodName := ⟨RX2, "drawn", "(IIII)I"⟩
def dkwX2_drawn_2 : List UInt8 := [21, 5, 182, 2, 107, 132, 5, 1, 167, 255, 241, 42, 21, 4, 182, 2, 55, 172]
abbrev dktX2_drawn_2 : List UInt8 := dkwX2_drawn_2 ++ []
def dkwX2_drawn_1 : List UInt8 := [16, 254, 172, 42, 2, 182, 2, 37, 42, 28, 181, 2, 100, 3, 54, 5, 21, 5, 29, 162, 0, 15, 42]
abbrev dktX2_drawn_1 : List UInt8 := dkwX2_drawn_1 ++ dktX2_drawn_2
def dkwX2_drawn_0 : List UInt8 := [42, 3, 181, 0, 169, 29, 3, 16, 60, 184, 0, 181, 153, 0, 11, 42, 27, 182, 1, 116, 154, 0, 6]
abbrev dktX2_drawn_0 : List UInt8 := dkwX2_drawn_0 ++ dktX2_drawn_1
theorem dksX2_drawn_0 : cX2_drawn.data.toList.drop 0 = dktX2_drawn_0 := by decide +kernel
theorem dksX2_drawn_1 : cX2_drawn.data.toList.drop 23 = dktX2_drawn_1 := dk_seg dksX2_drawn_0 23 rfl rfl
theorem dksX2_drawn_2 : cX2_drawn.data.toList.drop 46 = dktX2_drawn_2 := dk_seg dksX2_drawn_1 23 rfl rfl
theorem dX2_drawn_0 : decode cX2_drawn 0 = .ok (.aload_n 0, 1) := dk_42 (dk_at dksX2_drawn_0 0 rfl rfl)
theorem dX2_drawn_1 : decode cX2_drawn 1 = .ok (.iconst 0, 1) := dk_3 (dk_at dksX2_drawn_0 1 rfl rfl)
theorem dX2_drawn_2 : decode cX2_drawn 2 = .ok (.putfield 169, 3) := dk_181 0 169 (dk_at dksX2_drawn_0 2 rfl rfl)
theorem dX2_drawn_5 : decode cX2_drawn 5 = .ok (.iload_n 3, 1) := dk_29 (dk_at dksX2_drawn_0 5 rfl rfl)
theorem dX2_drawn_6 : decode cX2_drawn 6 = .ok (.iconst 0, 1) := dk_3 (dk_at dksX2_drawn_0 6 rfl rfl)
theorem dX2_drawn_7 : decode cX2_drawn 7 = .ok (.bipush 60, 2) := dk_16 60 (dk_at dksX2_drawn_0 7 rfl rfl)
theorem dX2_drawn_9 : decode cX2_drawn 9 = .ok (.invokestatic 181, 3) := dk_184 0 181 (dk_at dksX2_drawn_0 9 rfl rfl)
theorem dX2_drawn_12 : decode cX2_drawn 12 = .ok (.ifCond .eq 11, 3) := dk_153 0 11 (dk_at dksX2_drawn_0 12 rfl rfl)
theorem dX2_drawn_15 : decode cX2_drawn 15 = .ok (.aload_n 0, 1) := dk_42 (dk_at dksX2_drawn_0 15 rfl rfl)
theorem dX2_drawn_16 : decode cX2_drawn 16 = .ok (.iload_n 1, 1) := dk_27 (dk_at dksX2_drawn_0 16 rfl rfl)
theorem dX2_drawn_17 : decode cX2_drawn 17 = .ok (.invokevirtual 372, 3) := dk_182 1 116 (dk_at dksX2_drawn_0 17 rfl rfl)
theorem dX2_drawn_20 : decode cX2_drawn 20 = .ok (.ifCond .ne 6, 3) := dk_154 0 6 (dk_at dksX2_drawn_0 20 rfl rfl)
theorem dX2_drawn_23 : decode cX2_drawn 23 = .ok (.bipush (-2), 2) := dk_16 254 (dk_at dksX2_drawn_1 0 rfl rfl)
theorem dX2_drawn_25 : decode cX2_drawn 25 = .ok (.ireturn, 1) := dk_172 (dk_at dksX2_drawn_1 2 rfl rfl)
theorem dX2_drawn_26 : decode cX2_drawn 26 = .ok (.aload_n 0, 1) := dk_42 (dk_at dksX2_drawn_1 3 rfl rfl)
theorem dX2_drawn_27 : decode cX2_drawn 27 = .ok (.iconst (-1), 1) := dk_2 (dk_at dksX2_drawn_1 4 rfl rfl)
theorem dX2_drawn_28 : decode cX2_drawn 28 = .ok (.invokevirtual 549, 3) := dk_182 2 37 (dk_at dksX2_drawn_1 5 rfl rfl)
theorem dX2_drawn_31 : decode cX2_drawn 31 = .ok (.aload_n 0, 1) := dk_42 (dk_at dksX2_drawn_1 8 rfl rfl)
theorem dX2_drawn_32 : decode cX2_drawn 32 = .ok (.iload_n 2, 1) := dk_28 (dk_at dksX2_drawn_1 9 rfl rfl)
theorem dX2_drawn_33 : decode cX2_drawn 33 = .ok (.putfield 612, 3) := dk_181 2 100 (dk_at dksX2_drawn_1 10 rfl rfl)
theorem dX2_drawn_36 : decode cX2_drawn 36 = .ok (.iconst 0, 1) := dk_3 (dk_at dksX2_drawn_1 13 rfl rfl)
theorem dX2_drawn_37 : decode cX2_drawn 37 = .ok (.istore 5, 2) := dk_54 5 (dk_at dksX2_drawn_1 14 rfl rfl)
theorem dX2_drawn_39 : decode cX2_drawn 39 = .ok (.iload 5, 2) := dk_21 5 (dk_at dksX2_drawn_1 16 rfl rfl)
theorem dX2_drawn_41 : decode cX2_drawn 41 = .ok (.iload_n 3, 1) := dk_29 (dk_at dksX2_drawn_1 18 rfl rfl)
theorem dX2_drawn_42 : decode cX2_drawn 42 = .ok (.if_icmp .ge 15, 3) := dk_162 0 15 (dk_at dksX2_drawn_1 19 rfl rfl)
theorem dX2_drawn_45 : decode cX2_drawn 45 = .ok (.aload_n 0, 1) := dk_42 (dk_at dksX2_drawn_1 22 rfl rfl)
theorem dX2_drawn_46 : decode cX2_drawn 46 = .ok (.iload 5, 2) := dk_21 5 (dk_at dksX2_drawn_2 0 rfl rfl)
theorem dX2_drawn_48 : decode cX2_drawn 48 = .ok (.invokevirtual 619, 3) := dk_182 2 107 (dk_at dksX2_drawn_2 2 rfl rfl)
theorem dX2_drawn_51 : decode cX2_drawn 51 = .ok (.iinc 5 1, 3) := dk_132 5 1 (dk_at dksX2_drawn_2 5 rfl rfl)
theorem dX2_drawn_54 : decode cX2_drawn 54 = .ok (.goto (-15), 3) := dk_167 255 241 (dk_at dksX2_drawn_2 8 rfl rfl)
theorem dX2_drawn_57 : decode cX2_drawn 57 = .ok (.aload_n 0, 1) := dk_42 (dk_at dksX2_drawn_2 11 rfl rfl)
theorem dX2_drawn_58 : decode cX2_drawn 58 = .ok (.iload 4, 2) := dk_21 4 (dk_at dksX2_drawn_2 12 rfl rfl)
theorem dX2_drawn_60 : decode cX2_drawn 60 = .ok (.invokevirtual 567, 3) := dk_182 2 55 (dk_at dksX2_drawn_2 14 rfl rfl)
theorem dX2_drawn_63 : decode cX2_drawn 63 = .ok (.ireturn, 1) := dk_172 (dk_at dksX2_drawn_2 17 rfl rfl)
abbrev cX2_drawDeed : ByteArray := prog_25_method_119_code
def yX2_drawDeed : MethodName := ⟨RX2, "drawDeed", "(I)V"⟩
def dkwX2_drawDeed_7 : List UInt8 := [3, 182, 2, 12, 87, 177]
abbrev dktX2_drawDeed_7 : List UInt8 := dkwX2_drawDeed_7 ++ []
def dkwX2_drawDeed_6 : List UInt8 := [182, 1, 92, 42, 29, 4, 182, 1, 92, 42, 180, 1, 95, 29, 184, 0, 173, 154, 0, 7, 4, 167, 0, 4]
abbrev dktX2_drawDeed_6 : List UInt8 := dkwX2_drawDeed_6 ++ dktX2_drawDeed_7
def dkwX2_drawDeed_5 : List UInt8 := [87, 167, 0, 52, 42, 182, 1, 89, 158, 0, 45, 42, 42, 182, 1, 89, 182, 2, 104, 62, 42, 42, 29, 3]
abbrev dktX2_drawDeed_5 : List UInt8 := dkwX2_drawDeed_5 ++ dktX2_drawDeed_6
def dkwX2_drawDeed_4 : List UInt8 := [182, 2, 31, 87, 167, 0, 73, 28, 16, 9, 162, 0, 18, 42, 4, 42, 8, 182, 2, 104, 96, 182, 2, 9]
abbrev dktX2_drawDeed_4 : List UInt8 := dkwX2_drawDeed_4 ++ dktX2_drawDeed_5
def dkwX2_drawDeed_3 : List UInt8 := [167, 0, 5, 21, 4, 54, 4, 42, 28, 7, 162, 0, 7, 3, 167, 0, 4, 4, 29, 21, 4, 27]
abbrev dktX2_drawDeed_3 : List UInt8 := dkwX2_drawDeed_3 ++ dktX2_drawDeed_4
def dkwX2_drawDeed_2 : List UInt8 := [54, 5, 21, 5, 158, 0, 23, 21, 4, 184, 1, 98, 7, 162, 0, 14, 16, 27, 21, 4, 104, 21, 5, 96]
abbrev dktX2_drawDeed_2 : List UInt8 := dkwX2_drawDeed_2 ++ dktX2_drawDeed_3
def dkwX2_drawDeed_1 : List UInt8 := [182, 2, 104, 62, 42, 42, 42, 182, 1, 110, 182, 2, 104, 4, 182, 1, 113, 54, 4, 42, 6, 182, 2, 104]
abbrev dktX2_drawDeed_1 : List UInt8 := dkwX2_drawDeed_1 ++ dktX2_drawDeed_2
def dkwX2_drawDeed_0 : List UInt8 := [42, 16, 10, 182, 2, 104, 61, 28, 8, 162, 0, 92, 42, 182, 1, 110, 158, 0, 155, 42, 42, 180, 1, 83]
abbrev dktX2_drawDeed_0 : List UInt8 := dkwX2_drawDeed_0 ++ dktX2_drawDeed_1
theorem dksX2_drawDeed_0 : cX2_drawDeed.data.toList.drop 0 = dktX2_drawDeed_0 := by decide +kernel
theorem dksX2_drawDeed_1 : cX2_drawDeed.data.toList.drop 24 = dktX2_drawDeed_1 := dk_seg dksX2_drawDeed_0 24 rfl rfl
theorem dksX2_drawDeed_2 : cX2_drawDeed.data.toList.drop 48 = dktX2_drawDeed_2 := dk_seg dksX2_drawDeed_1 24 rfl rfl
theorem dksX2_drawDeed_3 : cX2_drawDeed.data.toList.drop 72 = dktX2_drawDeed_3 := dk_seg dksX2_drawDeed_2 24 rfl rfl
theorem dksX2_drawDeed_4 : cX2_drawDeed.data.toList.drop 94 = dktX2_drawDeed_4 := dk_seg dksX2_drawDeed_3 22 rfl rfl
theorem dksX2_drawDeed_5 : cX2_drawDeed.data.toList.drop 118 = dktX2_drawDeed_5 := dk_seg dksX2_drawDeed_4 24 rfl rfl
theorem dksX2_drawDeed_6 : cX2_drawDeed.data.toList.drop 142 = dktX2_drawDeed_6 := dk_seg dksX2_drawDeed_5 24 rfl rfl
theorem dksX2_drawDeed_7 : cX2_drawDeed.data.toList.drop 166 = dktX2_drawDeed_7 := dk_seg dksX2_drawDeed_6 24 rfl rfl
theorem dX2_drawDeed_0 : decode cX2_drawDeed 0 = .ok (.aload_n 0, 1) := dk_42 (dk_at dksX2_drawDeed_0 0 rfl rfl)
theorem dX2_drawDeed_1 : decode cX2_drawDeed 1 = .ok (.bipush 10, 2) := dk_16 10 (dk_at dksX2_drawDeed_0 1 rfl rfl)
theorem dX2_drawDeed_3 : decode cX2_drawDeed 3 = .ok (.invokevirtual 616, 3) := dk_182 2 104 (dk_at dksX2_drawDeed_0 3 rfl rfl)
theorem dX2_drawDeed_6 : decode cX2_drawDeed 6 = .ok (.istore_n 2, 1) := dk_61 (dk_at dksX2_drawDeed_0 6 rfl rfl)
theorem dX2_drawDeed_7 : decode cX2_drawDeed 7 = .ok (.iload_n 2, 1) := dk_28 (dk_at dksX2_drawDeed_0 7 rfl rfl)
theorem dX2_drawDeed_8 : decode cX2_drawDeed 8 = .ok (.iconst 5, 1) := dk_8 (dk_at dksX2_drawDeed_0 8 rfl rfl)
theorem dX2_drawDeed_9 : decode cX2_drawDeed 9 = .ok (.if_icmp .ge 92, 3) := dk_162 0 92 (dk_at dksX2_drawDeed_0 9 rfl rfl)
theorem dX2_drawDeed_12 : decode cX2_drawDeed 12 = .ok (.aload_n 0, 1) := dk_42 (dk_at dksX2_drawDeed_0 12 rfl rfl)
theorem dX2_drawDeed_13 : decode cX2_drawDeed 13 = .ok (.invokevirtual 366, 3) := dk_182 1 110 (dk_at dksX2_drawDeed_0 13 rfl rfl)
theorem dX2_drawDeed_16 : decode cX2_drawDeed 16 = .ok (.ifCond .le 155, 3) := dk_158 0 155 (dk_at dksX2_drawDeed_0 16 rfl rfl)
theorem dX2_drawDeed_19 : decode cX2_drawDeed 19 = .ok (.aload_n 0, 1) := dk_42 (dk_at dksX2_drawDeed_0 19 rfl rfl)
theorem dX2_drawDeed_20 : decode cX2_drawDeed 20 = .ok (.aload_n 0, 1) := dk_42 (dk_at dksX2_drawDeed_0 20 rfl rfl)
theorem dX2_drawDeed_21 : decode cX2_drawDeed 21 = .ok (.getfield 339, 3) := dk_180 1 83 (dk_at dksX2_drawDeed_0 21 rfl rfl)
theorem dX2_drawDeed_24 : decode cX2_drawDeed 24 = .ok (.invokevirtual 616, 3) := dk_182 2 104 (dk_at dksX2_drawDeed_1 0 rfl rfl)
theorem dX2_drawDeed_27 : decode cX2_drawDeed 27 = .ok (.istore_n 3, 1) := dk_62 (dk_at dksX2_drawDeed_1 3 rfl rfl)
theorem dX2_drawDeed_28 : decode cX2_drawDeed 28 = .ok (.aload_n 0, 1) := dk_42 (dk_at dksX2_drawDeed_1 4 rfl rfl)
theorem dX2_drawDeed_29 : decode cX2_drawDeed 29 = .ok (.aload_n 0, 1) := dk_42 (dk_at dksX2_drawDeed_1 5 rfl rfl)
theorem dX2_drawDeed_30 : decode cX2_drawDeed 30 = .ok (.aload_n 0, 1) := dk_42 (dk_at dksX2_drawDeed_1 6 rfl rfl)
theorem dX2_drawDeed_31 : decode cX2_drawDeed 31 = .ok (.invokevirtual 366, 3) := dk_182 1 110 (dk_at dksX2_drawDeed_1 7 rfl rfl)
theorem dX2_drawDeed_34 : decode cX2_drawDeed 34 = .ok (.invokevirtual 616, 3) := dk_182 2 104 (dk_at dksX2_drawDeed_1 10 rfl rfl)
theorem dX2_drawDeed_37 : decode cX2_drawDeed 37 = .ok (.iconst 1, 1) := dk_4 (dk_at dksX2_drawDeed_1 13 rfl rfl)
theorem dX2_drawDeed_38 : decode cX2_drawDeed 38 = .ok (.invokevirtual 369, 3) := dk_182 1 113 (dk_at dksX2_drawDeed_1 14 rfl rfl)
theorem dX2_drawDeed_41 : decode cX2_drawDeed 41 = .ok (.istore 4, 2) := dk_54 4 (dk_at dksX2_drawDeed_1 17 rfl rfl)
theorem dX2_drawDeed_43 : decode cX2_drawDeed 43 = .ok (.aload_n 0, 1) := dk_42 (dk_at dksX2_drawDeed_1 19 rfl rfl)
theorem dX2_drawDeed_44 : decode cX2_drawDeed 44 = .ok (.iconst 3, 1) := dk_6 (dk_at dksX2_drawDeed_1 20 rfl rfl)
theorem dX2_drawDeed_45 : decode cX2_drawDeed 45 = .ok (.invokevirtual 616, 3) := dk_182 2 104 (dk_at dksX2_drawDeed_1 21 rfl rfl)
theorem dX2_drawDeed_48 : decode cX2_drawDeed 48 = .ok (.istore 5, 2) := dk_54 5 (dk_at dksX2_drawDeed_2 0 rfl rfl)
theorem dX2_drawDeed_50 : decode cX2_drawDeed 50 = .ok (.iload 5, 2) := dk_21 5 (dk_at dksX2_drawDeed_2 2 rfl rfl)
theorem dX2_drawDeed_52 : decode cX2_drawDeed 52 = .ok (.ifCond .le 23, 3) := dk_158 0 23 (dk_at dksX2_drawDeed_2 4 rfl rfl)
theorem dX2_drawDeed_55 : decode cX2_drawDeed 55 = .ok (.iload 4, 2) := dk_21 4 (dk_at dksX2_drawDeed_2 7 rfl rfl)
theorem dX2_drawDeed_57 : decode cX2_drawDeed 57 = .ok (.invokestatic 354, 3) := dk_184 1 98 (dk_at dksX2_drawDeed_2 9 rfl rfl)
theorem dX2_drawDeed_60 : decode cX2_drawDeed 60 = .ok (.iconst 4, 1) := dk_7 (dk_at dksX2_drawDeed_2 12 rfl rfl)
theorem dX2_drawDeed_61 : decode cX2_drawDeed 61 = .ok (.if_icmp .ge 14, 3) := dk_162 0 14 (dk_at dksX2_drawDeed_2 13 rfl rfl)
theorem dX2_drawDeed_64 : decode cX2_drawDeed 64 = .ok (.bipush 27, 2) := dk_16 27 (dk_at dksX2_drawDeed_2 16 rfl rfl)
theorem dX2_drawDeed_66 : decode cX2_drawDeed 66 = .ok (.iload 4, 2) := dk_21 4 (dk_at dksX2_drawDeed_2 18 rfl rfl)
theorem dX2_drawDeed_68 : decode cX2_drawDeed 68 = .ok (.imul, 1) := dk_104 (dk_at dksX2_drawDeed_2 20 rfl rfl)
theorem dX2_drawDeed_69 : decode cX2_drawDeed 69 = .ok (.iload 5, 2) := dk_21 5 (dk_at dksX2_drawDeed_2 21 rfl rfl)
theorem dX2_drawDeed_71 : decode cX2_drawDeed 71 = .ok (.iadd, 1) := dk_96 (dk_at dksX2_drawDeed_2 23 rfl rfl)
theorem dX2_drawDeed_72 : decode cX2_drawDeed 72 = .ok (.goto 5, 3) := dk_167 0 5 (dk_at dksX2_drawDeed_3 0 rfl rfl)
theorem dX2_drawDeed_75 : decode cX2_drawDeed 75 = .ok (.iload 4, 2) := dk_21 4 (dk_at dksX2_drawDeed_3 3 rfl rfl)
theorem dX2_drawDeed_77 : decode cX2_drawDeed 77 = .ok (.istore 4, 2) := dk_54 4 (dk_at dksX2_drawDeed_3 5 rfl rfl)
theorem dX2_drawDeed_79 : decode cX2_drawDeed 79 = .ok (.aload_n 0, 1) := dk_42 (dk_at dksX2_drawDeed_3 7 rfl rfl)
theorem dX2_drawDeed_80 : decode cX2_drawDeed 80 = .ok (.iload_n 2, 1) := dk_28 (dk_at dksX2_drawDeed_3 8 rfl rfl)
theorem dX2_drawDeed_81 : decode cX2_drawDeed 81 = .ok (.iconst 4, 1) := dk_7 (dk_at dksX2_drawDeed_3 9 rfl rfl)
theorem dX2_drawDeed_82 : decode cX2_drawDeed 82 = .ok (.if_icmp .ge 7, 3) := dk_162 0 7 (dk_at dksX2_drawDeed_3 10 rfl rfl)
theorem dX2_drawDeed_85 : decode cX2_drawDeed 85 = .ok (.iconst 0, 1) := dk_3 (dk_at dksX2_drawDeed_3 13 rfl rfl)
theorem dX2_drawDeed_86 : decode cX2_drawDeed 86 = .ok (.goto 4, 3) := dk_167 0 4 (dk_at dksX2_drawDeed_3 14 rfl rfl)
theorem dX2_drawDeed_89 : decode cX2_drawDeed 89 = .ok (.iconst 1, 1) := dk_4 (dk_at dksX2_drawDeed_3 17 rfl rfl)
theorem dX2_drawDeed_90 : decode cX2_drawDeed 90 = .ok (.iload_n 3, 1) := dk_29 (dk_at dksX2_drawDeed_3 18 rfl rfl)
theorem dX2_drawDeed_91 : decode cX2_drawDeed 91 = .ok (.iload 4, 2) := dk_21 4 (dk_at dksX2_drawDeed_3 19 rfl rfl)
theorem dX2_drawDeed_93 : decode cX2_drawDeed 93 = .ok (.iload_n 1, 1) := dk_27 (dk_at dksX2_drawDeed_3 21 rfl rfl)
theorem dX2_drawDeed_94 : decode cX2_drawDeed 94 = .ok (.invokevirtual 543, 3) := dk_182 2 31 (dk_at dksX2_drawDeed_4 0 rfl rfl)
theorem dX2_drawDeed_97 : decode cX2_drawDeed 97 = .ok (.pop, 1) := dk_87 (dk_at dksX2_drawDeed_4 3 rfl rfl)
theorem dX2_drawDeed_98 : decode cX2_drawDeed 98 = .ok (.goto 73, 3) := dk_167 0 73 (dk_at dksX2_drawDeed_4 4 rfl rfl)
theorem dX2_drawDeed_101 : decode cX2_drawDeed 101 = .ok (.iload_n 2, 1) := dk_28 (dk_at dksX2_drawDeed_4 7 rfl rfl)
theorem dX2_drawDeed_102 : decode cX2_drawDeed 102 = .ok (.bipush 9, 2) := dk_16 9 (dk_at dksX2_drawDeed_4 8 rfl rfl)
theorem dX2_drawDeed_104 : decode cX2_drawDeed 104 = .ok (.if_icmp .ge 18, 3) := dk_162 0 18 (dk_at dksX2_drawDeed_4 10 rfl rfl)
theorem dX2_drawDeed_107 : decode cX2_drawDeed 107 = .ok (.aload_n 0, 1) := dk_42 (dk_at dksX2_drawDeed_4 13 rfl rfl)
theorem dX2_drawDeed_108 : decode cX2_drawDeed 108 = .ok (.iconst 1, 1) := dk_4 (dk_at dksX2_drawDeed_4 14 rfl rfl)
theorem dX2_drawDeed_109 : decode cX2_drawDeed 109 = .ok (.aload_n 0, 1) := dk_42 (dk_at dksX2_drawDeed_4 15 rfl rfl)
theorem dX2_drawDeed_110 : decode cX2_drawDeed 110 = .ok (.iconst 5, 1) := dk_8 (dk_at dksX2_drawDeed_4 16 rfl rfl)
theorem dX2_drawDeed_111 : decode cX2_drawDeed 111 = .ok (.invokevirtual 616, 3) := dk_182 2 104 (dk_at dksX2_drawDeed_4 17 rfl rfl)
theorem dX2_drawDeed_114 : decode cX2_drawDeed 114 = .ok (.iadd, 1) := dk_96 (dk_at dksX2_drawDeed_4 20 rfl rfl)
theorem dX2_drawDeed_115 : decode cX2_drawDeed 115 = .ok (.invokevirtual 521, 3) := dk_182 2 9 (dk_at dksX2_drawDeed_4 21 rfl rfl)
theorem dX2_drawDeed_118 : decode cX2_drawDeed 118 = .ok (.pop, 1) := dk_87 (dk_at dksX2_drawDeed_5 0 rfl rfl)
theorem dX2_drawDeed_119 : decode cX2_drawDeed 119 = .ok (.goto 52, 3) := dk_167 0 52 (dk_at dksX2_drawDeed_5 1 rfl rfl)
theorem dX2_drawDeed_122 : decode cX2_drawDeed 122 = .ok (.aload_n 0, 1) := dk_42 (dk_at dksX2_drawDeed_5 4 rfl rfl)
theorem dX2_drawDeed_123 : decode cX2_drawDeed 123 = .ok (.invokevirtual 345, 3) := dk_182 1 89 (dk_at dksX2_drawDeed_5 5 rfl rfl)
theorem dX2_drawDeed_126 : decode cX2_drawDeed 126 = .ok (.ifCond .le 45, 3) := dk_158 0 45 (dk_at dksX2_drawDeed_5 8 rfl rfl)
theorem dX2_drawDeed_129 : decode cX2_drawDeed 129 = .ok (.aload_n 0, 1) := dk_42 (dk_at dksX2_drawDeed_5 11 rfl rfl)
theorem dX2_drawDeed_130 : decode cX2_drawDeed 130 = .ok (.aload_n 0, 1) := dk_42 (dk_at dksX2_drawDeed_5 12 rfl rfl)
theorem dX2_drawDeed_131 : decode cX2_drawDeed 131 = .ok (.invokevirtual 345, 3) := dk_182 1 89 (dk_at dksX2_drawDeed_5 13 rfl rfl)
theorem dX2_drawDeed_134 : decode cX2_drawDeed 134 = .ok (.invokevirtual 616, 3) := dk_182 2 104 (dk_at dksX2_drawDeed_5 16 rfl rfl)
theorem dX2_drawDeed_137 : decode cX2_drawDeed 137 = .ok (.istore_n 3, 1) := dk_62 (dk_at dksX2_drawDeed_5 19 rfl rfl)
theorem dX2_drawDeed_138 : decode cX2_drawDeed 138 = .ok (.aload_n 0, 1) := dk_42 (dk_at dksX2_drawDeed_5 20 rfl rfl)
theorem dX2_drawDeed_139 : decode cX2_drawDeed 139 = .ok (.aload_n 0, 1) := dk_42 (dk_at dksX2_drawDeed_5 21 rfl rfl)
theorem dX2_drawDeed_140 : decode cX2_drawDeed 140 = .ok (.iload_n 3, 1) := dk_29 (dk_at dksX2_drawDeed_5 22 rfl rfl)
theorem dX2_drawDeed_141 : decode cX2_drawDeed 141 = .ok (.iconst 0, 1) := dk_3 (dk_at dksX2_drawDeed_5 23 rfl rfl)
theorem dX2_drawDeed_142 : decode cX2_drawDeed 142 = .ok (.invokevirtual 348, 3) := dk_182 1 92 (dk_at dksX2_drawDeed_6 0 rfl rfl)
theorem dX2_drawDeed_145 : decode cX2_drawDeed 145 = .ok (.aload_n 0, 1) := dk_42 (dk_at dksX2_drawDeed_6 3 rfl rfl)
theorem dX2_drawDeed_146 : decode cX2_drawDeed 146 = .ok (.iload_n 3, 1) := dk_29 (dk_at dksX2_drawDeed_6 4 rfl rfl)
theorem dX2_drawDeed_147 : decode cX2_drawDeed 147 = .ok (.iconst 1, 1) := dk_4 (dk_at dksX2_drawDeed_6 5 rfl rfl)
theorem dX2_drawDeed_148 : decode cX2_drawDeed 148 = .ok (.invokevirtual 348, 3) := dk_182 1 92 (dk_at dksX2_drawDeed_6 6 rfl rfl)
theorem dX2_drawDeed_151 : decode cX2_drawDeed 151 = .ok (.aload_n 0, 1) := dk_42 (dk_at dksX2_drawDeed_6 9 rfl rfl)
theorem dX2_drawDeed_152 : decode cX2_drawDeed 152 = .ok (.getfield 351, 3) := dk_180 1 95 (dk_at dksX2_drawDeed_6 10 rfl rfl)
theorem dX2_drawDeed_155 : decode cX2_drawDeed 155 = .ok (.iload_n 3, 1) := dk_29 (dk_at dksX2_drawDeed_6 13 rfl rfl)
theorem dX2_drawDeed_156 : decode cX2_drawDeed 156 = .ok (.invokestatic 173, 3) := dk_184 0 173 (dk_at dksX2_drawDeed_6 14 rfl rfl)
theorem dX2_drawDeed_159 : decode cX2_drawDeed 159 = .ok (.ifCond .ne 7, 3) := dk_154 0 7 (dk_at dksX2_drawDeed_6 17 rfl rfl)
theorem dX2_drawDeed_162 : decode cX2_drawDeed 162 = .ok (.iconst 1, 1) := dk_4 (dk_at dksX2_drawDeed_6 20 rfl rfl)
theorem dX2_drawDeed_163 : decode cX2_drawDeed 163 = .ok (.goto 4, 3) := dk_167 0 4 (dk_at dksX2_drawDeed_6 21 rfl rfl)
theorem dX2_drawDeed_166 : decode cX2_drawDeed 166 = .ok (.iconst 0, 1) := dk_3 (dk_at dksX2_drawDeed_7 0 rfl rfl)
theorem dX2_drawDeed_167 : decode cX2_drawDeed 167 = .ok (.invokevirtual 524, 3) := dk_182 2 12 (dk_at dksX2_drawDeed_7 1 rfl rfl)
theorem dX2_drawDeed_170 : decode cX2_drawDeed 170 = .ok (.pop, 1) := dk_87 (dk_at dksX2_drawDeed_7 4 rfl rfl)
theorem dX2_drawDeed_171 : decode cX2_drawDeed 171 = .ok (.return_, 1) := dk_177 (dk_at dksX2_drawDeed_7 5 rfl rfl)
abbrev cX2_draw : ByteArray := prog_25_method_118_code
def yX2_draw : MethodName := ⟨RX2, "draw", "(I)I"⟩
def dkwX2_draw_1 : List UInt8 := [112, 172]
abbrev dktX2_draw_1 : List UInt8 := dkwX2_draw_1 ++ []
def dkwX2_draw_0 : List UInt8 := [42, 42, 180, 2, 100, 19, 2, 103, 104, 17, 48, 57, 96, 181, 2, 100, 42, 180, 2, 100, 16, 16, 124, 27]
abbrev dktX2_draw_0 : List UInt8 := dkwX2_draw_0 ++ dktX2_draw_1
theorem dksX2_draw_0 : cX2_draw.data.toList.drop 0 = dktX2_draw_0 := by decide +kernel
theorem dksX2_draw_1 : cX2_draw.data.toList.drop 24 = dktX2_draw_1 := dk_seg dksX2_draw_0 24 rfl rfl
theorem dX2_draw_0 : decode cX2_draw 0 = .ok (.aload_n 0, 1) := dk_42 (dk_at dksX2_draw_0 0 rfl rfl)
theorem dX2_draw_1 : decode cX2_draw 1 = .ok (.aload_n 0, 1) := dk_42 (dk_at dksX2_draw_0 1 rfl rfl)
theorem dX2_draw_2 : decode cX2_draw 2 = .ok (.getfield 612, 3) := dk_180 2 100 (dk_at dksX2_draw_0 2 rfl rfl)
theorem dX2_draw_5 : decode cX2_draw 5 = .ok (.ldc_w 615, 3) := dk_19 2 103 (dk_at dksX2_draw_0 5 rfl rfl)
theorem dX2_draw_8 : decode cX2_draw 8 = .ok (.imul, 1) := dk_104 (dk_at dksX2_draw_0 8 rfl rfl)
theorem dX2_draw_9 : decode cX2_draw 9 = .ok (.sipush 12345, 3) := dk_17 48 57 (dk_at dksX2_draw_0 9 rfl rfl)
theorem dX2_draw_12 : decode cX2_draw 12 = .ok (.iadd, 1) := dk_96 (dk_at dksX2_draw_0 12 rfl rfl)
theorem dX2_draw_13 : decode cX2_draw 13 = .ok (.putfield 612, 3) := dk_181 2 100 (dk_at dksX2_draw_0 13 rfl rfl)
theorem dX2_draw_16 : decode cX2_draw 16 = .ok (.aload_n 0, 1) := dk_42 (dk_at dksX2_draw_0 16 rfl rfl)
theorem dX2_draw_17 : decode cX2_draw 17 = .ok (.getfield 612, 3) := dk_180 2 100 (dk_at dksX2_draw_0 17 rfl rfl)
theorem dX2_draw_20 : decode cX2_draw 20 = .ok (.bipush 16, 2) := dk_16 16 (dk_at dksX2_draw_0 20 rfl rfl)
theorem dX2_draw_22 : decode cX2_draw 22 = .ok (.iushr, 1) := dk_124 (dk_at dksX2_draw_0 22 rfl rfl)
theorem dX2_draw_23 : decode cX2_draw 23 = .ok (.iload_n 1, 1) := dk_27 (dk_at dksX2_draw_0 23 rfl rfl)
theorem dX2_draw_24 : decode cX2_draw 24 = .ok (.irem, 1) := dk_112 (dk_at dksX2_draw_1 0 rfl rfl)
theorem dX2_draw_25 : decode cX2_draw 25 = .ok (.ireturn, 1) := dk_172 (dk_at dksX2_draw_1 1 rfl rfl)
abbrev cX2_after : ByteArray := prog_25_method_123_code
def yX2_after : MethodName := ⟨RX2, "after", "(III)I"⟩
def dkwX2_after_5 : List UInt8 := [182, 2, 113, 172, 16, 254, 172]
abbrev dktX2_after_5 : List UInt8 := dkwX2_after_5 ++ []
def dkwX2_after_4 : List UInt8 := [172, 42, 180, 1, 149, 172, 42, 180, 2, 28, 172, 42, 29, 16, 8, 160, 0, 7, 4, 167, 0, 4, 3]
abbrev dktX2_after_4 : List UInt8 := dkwX2_after_4 ++ dktX2_after_5
def dkwX2_after_3 : List UInt8 := [42, 180, 1, 134, 172, 42, 180, 1, 137, 172, 42, 180, 1, 140, 172, 42, 180, 1, 143, 172, 42, 180, 1, 146]
abbrev dktX2_after_3 : List UInt8 := dkwX2_after_3 ++ dktX2_after_4
def dkwX2_after_2 : List UInt8 := [170, 0, 0, 0, 100, 0, 0, 0, 0, 0, 0, 0, 8, 0, 0, 0, 49, 0, 0, 0, 54, 0, 0, 0, 59, 0, 0, 0, 64, 0, 0, 0, 69, 0, 0, 0, 74, 0, 0, 0, 79, 0, 0, 0, 84, 0, 0, 0, 84]
abbrev dktX2_after_2 : List UInt8 := dkwX2_after_2 ++ dktX2_after_3
def dkwX2_after_1 : List UInt8 := [182, 2, 43, 87, 29]
abbrev dktX2_after_1 : List UInt8 := dkwX2_after_1 ++ dktX2_after_2
def dkwX2_after_0 : List UInt8 := [42, 3, 181, 0, 169, 42, 27, 28, 182, 2, 40, 154, 0, 6, 16, 254, 172, 42, 42, 182, 2, 22]
abbrev dktX2_after_0 : List UInt8 := dkwX2_after_0 ++ dktX2_after_1
theorem dksX2_after_0 : cX2_after.data.toList.drop 0 = dktX2_after_0 := by decide +kernel
theorem dksX2_after_1 : cX2_after.data.toList.drop 22 = dktX2_after_1 := dk_seg dksX2_after_0 22 rfl rfl
theorem dksX2_after_2 : cX2_after.data.toList.drop 27 = dktX2_after_2 := dk_seg dksX2_after_1 5 rfl rfl
theorem dksX2_after_3 : cX2_after.data.toList.drop 76 = dktX2_after_3 := dk_seg dksX2_after_2 49 rfl rfl
theorem dksX2_after_4 : cX2_after.data.toList.drop 100 = dktX2_after_4 := dk_seg dksX2_after_3 24 rfl rfl
theorem dksX2_after_5 : cX2_after.data.toList.drop 123 = dktX2_after_5 := dk_seg dksX2_after_4 23 rfl rfl
theorem dX2_after_0 : decode cX2_after 0 = .ok (.aload_n 0, 1) := dk_42 (dk_at dksX2_after_0 0 rfl rfl)
theorem dX2_after_1 : decode cX2_after 1 = .ok (.iconst 0, 1) := dk_3 (dk_at dksX2_after_0 1 rfl rfl)
theorem dX2_after_2 : decode cX2_after 2 = .ok (.putfield 169, 3) := dk_181 0 169 (dk_at dksX2_after_0 2 rfl rfl)
theorem dX2_after_5 : decode cX2_after 5 = .ok (.aload_n 0, 1) := dk_42 (dk_at dksX2_after_0 5 rfl rfl)
theorem dX2_after_6 : decode cX2_after 6 = .ok (.iload_n 1, 1) := dk_27 (dk_at dksX2_after_0 6 rfl rfl)
theorem dX2_after_7 : decode cX2_after 7 = .ok (.iload_n 2, 1) := dk_28 (dk_at dksX2_after_0 7 rfl rfl)
theorem dX2_after_8 : decode cX2_after 8 = .ok (.invokevirtual 552, 3) := dk_182 2 40 (dk_at dksX2_after_0 8 rfl rfl)
theorem dX2_after_11 : decode cX2_after 11 = .ok (.ifCond .ne 6, 3) := dk_154 0 6 (dk_at dksX2_after_0 11 rfl rfl)
theorem dX2_after_14 : decode cX2_after 14 = .ok (.bipush (-2), 2) := dk_16 254 (dk_at dksX2_after_0 14 rfl rfl)
theorem dX2_after_16 : decode cX2_after 16 = .ok (.ireturn, 1) := dk_172 (dk_at dksX2_after_0 16 rfl rfl)
theorem dX2_after_17 : decode cX2_after 17 = .ok (.aload_n 0, 1) := dk_42 (dk_at dksX2_after_0 17 rfl rfl)
theorem dX2_after_18 : decode cX2_after 18 = .ok (.aload_n 0, 1) := dk_42 (dk_at dksX2_after_0 18 rfl rfl)
theorem dX2_after_19 : decode cX2_after 19 = .ok (.invokevirtual 534, 3) := dk_182 2 22 (dk_at dksX2_after_0 19 rfl rfl)
theorem dX2_after_22 : decode cX2_after 22 = .ok (.invokevirtual 555, 3) := dk_182 2 43 (dk_at dksX2_after_1 0 rfl rfl)
theorem dX2_after_25 : decode cX2_after 25 = .ok (.pop, 1) := dk_87 (dk_at dksX2_after_1 3 rfl rfl)
theorem dX2_after_26 : decode cX2_after 26 = .ok (.iload_n 3, 1) := dk_29 (dk_at dksX2_after_1 4 rfl rfl)
theorem dX2_after_27 : decode cX2_after 27 = .ok (.tableswitch 100 0 8 #[49, 54, 59, 64, 69, 74, 79, 84, 84], 49) := by decide +kernel
theorem dX2_after_76 : decode cX2_after 76 = .ok (.aload_n 0, 1) := dk_42 (dk_at dksX2_after_3 0 rfl rfl)
theorem dX2_after_77 : decode cX2_after 77 = .ok (.getfield 390, 3) := dk_180 1 134 (dk_at dksX2_after_3 1 rfl rfl)
theorem dX2_after_80 : decode cX2_after 80 = .ok (.ireturn, 1) := dk_172 (dk_at dksX2_after_3 4 rfl rfl)
theorem dX2_after_81 : decode cX2_after 81 = .ok (.aload_n 0, 1) := dk_42 (dk_at dksX2_after_3 5 rfl rfl)
theorem dX2_after_82 : decode cX2_after 82 = .ok (.getfield 393, 3) := dk_180 1 137 (dk_at dksX2_after_3 6 rfl rfl)
theorem dX2_after_85 : decode cX2_after 85 = .ok (.ireturn, 1) := dk_172 (dk_at dksX2_after_3 9 rfl rfl)
theorem dX2_after_86 : decode cX2_after 86 = .ok (.aload_n 0, 1) := dk_42 (dk_at dksX2_after_3 10 rfl rfl)
theorem dX2_after_87 : decode cX2_after 87 = .ok (.getfield 396, 3) := dk_180 1 140 (dk_at dksX2_after_3 11 rfl rfl)
theorem dX2_after_90 : decode cX2_after 90 = .ok (.ireturn, 1) := dk_172 (dk_at dksX2_after_3 14 rfl rfl)
theorem dX2_after_91 : decode cX2_after 91 = .ok (.aload_n 0, 1) := dk_42 (dk_at dksX2_after_3 15 rfl rfl)
theorem dX2_after_92 : decode cX2_after 92 = .ok (.getfield 399, 3) := dk_180 1 143 (dk_at dksX2_after_3 16 rfl rfl)
theorem dX2_after_95 : decode cX2_after 95 = .ok (.ireturn, 1) := dk_172 (dk_at dksX2_after_3 19 rfl rfl)
theorem dX2_after_96 : decode cX2_after 96 = .ok (.aload_n 0, 1) := dk_42 (dk_at dksX2_after_3 20 rfl rfl)
theorem dX2_after_97 : decode cX2_after 97 = .ok (.getfield 402, 3) := dk_180 1 146 (dk_at dksX2_after_3 21 rfl rfl)
theorem dX2_after_100 : decode cX2_after 100 = .ok (.ireturn, 1) := dk_172 (dk_at dksX2_after_4 0 rfl rfl)
theorem dX2_after_101 : decode cX2_after 101 = .ok (.aload_n 0, 1) := dk_42 (dk_at dksX2_after_4 1 rfl rfl)
theorem dX2_after_102 : decode cX2_after 102 = .ok (.getfield 405, 3) := dk_180 1 149 (dk_at dksX2_after_4 2 rfl rfl)
theorem dX2_after_105 : decode cX2_after 105 = .ok (.ireturn, 1) := dk_172 (dk_at dksX2_after_4 5 rfl rfl)
theorem dX2_after_106 : decode cX2_after 106 = .ok (.aload_n 0, 1) := dk_42 (dk_at dksX2_after_4 6 rfl rfl)
theorem dX2_after_107 : decode cX2_after 107 = .ok (.getfield 540, 3) := dk_180 2 28 (dk_at dksX2_after_4 7 rfl rfl)
theorem dX2_after_110 : decode cX2_after 110 = .ok (.ireturn, 1) := dk_172 (dk_at dksX2_after_4 10 rfl rfl)
theorem dX2_after_111 : decode cX2_after 111 = .ok (.aload_n 0, 1) := dk_42 (dk_at dksX2_after_4 11 rfl rfl)
theorem dX2_after_112 : decode cX2_after 112 = .ok (.iload_n 3, 1) := dk_29 (dk_at dksX2_after_4 12 rfl rfl)
theorem dX2_after_113 : decode cX2_after 113 = .ok (.bipush 8, 2) := dk_16 8 (dk_at dksX2_after_4 13 rfl rfl)
theorem dX2_after_115 : decode cX2_after 115 = .ok (.if_icmp .ne 7, 3) := dk_160 0 7 (dk_at dksX2_after_4 15 rfl rfl)
theorem dX2_after_118 : decode cX2_after 118 = .ok (.iconst 1, 1) := dk_4 (dk_at dksX2_after_4 18 rfl rfl)
theorem dX2_after_119 : decode cX2_after 119 = .ok (.goto 4, 3) := dk_167 0 4 (dk_at dksX2_after_4 19 rfl rfl)
theorem dX2_after_122 : decode cX2_after 122 = .ok (.iconst 0, 1) := dk_3 (dk_at dksX2_after_4 22 rfl rfl)
theorem dX2_after_123 : decode cX2_after 123 = .ok (.invokevirtual 625, 3) := dk_182 2 113 (dk_at dksX2_after_5 0 rfl rfl)
theorem dX2_after_126 : decode cX2_after 126 = .ok (.ireturn, 1) := dk_172 (dk_at dksX2_after_5 3 rfl rfl)
theorem dX2_after_127 : decode cX2_after 127 = .ok (.bipush (-2), 2) := dk_16 254 (dk_at dksX2_after_5 4 rfl rfl)
theorem dX2_after_129 : decode cX2_after 129 = .ok (.ireturn, 1) := dk_172 (dk_at dksX2_after_5 6 rfl rfl)
abbrev cX2_mean : ByteArray := prog_25_method_122_code
def yX2_mean : MethodName := ⟨RX2, "mean", "(Z)I"⟩
def dkwX2_mean_4 : List UInt8 := [184, 2, 110, 108, 172]
abbrev dktX2_mean_4 : List UInt8 := dkwX2_mean_4 ++ []
def dkwX2_mean_3 : List UInt8 := [167, 255, 194, 29, 154, 0, 7, 2, 167, 0, 18, 27, 153, 0, 7, 29, 167, 0, 4, 28, 29, 28]
abbrev dktX2_mean_3 : List UInt8 := dkwX2_mean_3 ++ dktX2_mean_4
def dkwX2_mean_2 : List UInt8 := [29, 42, 180, 0, 129, 21, 4, 46, 4, 160, 0, 7, 4, 167, 0, 4, 3, 96, 62, 132, 4, 1]
abbrev dktX2_mean_2 : List UInt8 := dkwX2_mean_2 ++ dktX2_mean_3
def dkwX2_mean_1 : List UInt8 := [160, 0, 21, 42, 180, 0, 132, 21, 4, 46, 42, 180, 0, 135, 21, 4, 46, 100, 167, 0, 4, 3, 96, 61]
abbrev dktX2_mean_1 : List UInt8 := dkwX2_mean_1 ++ dktX2_mean_2
def dkwX2_mean_0 : List UInt8 := [3, 61, 3, 62, 3, 54, 4, 21, 4, 16, 40, 162, 0, 61, 28, 42, 180, 0, 129, 21, 4, 46, 4]
abbrev dktX2_mean_0 : List UInt8 := dkwX2_mean_0 ++ dktX2_mean_1
theorem dksX2_mean_0 : cX2_mean.data.toList.drop 0 = dktX2_mean_0 := by decide +kernel
theorem dksX2_mean_1 : cX2_mean.data.toList.drop 23 = dktX2_mean_1 := dk_seg dksX2_mean_0 23 rfl rfl
theorem dksX2_mean_2 : cX2_mean.data.toList.drop 47 = dktX2_mean_2 := dk_seg dksX2_mean_1 24 rfl rfl
theorem dksX2_mean_3 : cX2_mean.data.toList.drop 69 = dktX2_mean_3 := dk_seg dksX2_mean_2 22 rfl rfl
theorem dksX2_mean_4 : cX2_mean.data.toList.drop 91 = dktX2_mean_4 := dk_seg dksX2_mean_3 22 rfl rfl
theorem dX2_mean_0 : decode cX2_mean 0 = .ok (.iconst 0, 1) := dk_3 (dk_at dksX2_mean_0 0 rfl rfl)
theorem dX2_mean_1 : decode cX2_mean 1 = .ok (.istore_n 2, 1) := dk_61 (dk_at dksX2_mean_0 1 rfl rfl)
theorem dX2_mean_2 : decode cX2_mean 2 = .ok (.iconst 0, 1) := dk_3 (dk_at dksX2_mean_0 2 rfl rfl)
theorem dX2_mean_3 : decode cX2_mean 3 = .ok (.istore_n 3, 1) := dk_62 (dk_at dksX2_mean_0 3 rfl rfl)
theorem dX2_mean_4 : decode cX2_mean 4 = .ok (.iconst 0, 1) := dk_3 (dk_at dksX2_mean_0 4 rfl rfl)
theorem dX2_mean_5 : decode cX2_mean 5 = .ok (.istore 4, 2) := dk_54 4 (dk_at dksX2_mean_0 5 rfl rfl)
theorem dX2_mean_7 : decode cX2_mean 7 = .ok (.iload 4, 2) := dk_21 4 (dk_at dksX2_mean_0 7 rfl rfl)
theorem dX2_mean_9 : decode cX2_mean 9 = .ok (.bipush 40, 2) := dk_16 40 (dk_at dksX2_mean_0 9 rfl rfl)
theorem dX2_mean_11 : decode cX2_mean 11 = .ok (.if_icmp .ge 61, 3) := dk_162 0 61 (dk_at dksX2_mean_0 11 rfl rfl)
theorem dX2_mean_14 : decode cX2_mean 14 = .ok (.iload_n 2, 1) := dk_28 (dk_at dksX2_mean_0 14 rfl rfl)
theorem dX2_mean_15 : decode cX2_mean 15 = .ok (.aload_n 0, 1) := dk_42 (dk_at dksX2_mean_0 15 rfl rfl)
theorem dX2_mean_16 : decode cX2_mean 16 = .ok (.getfield 129, 3) := dk_180 0 129 (dk_at dksX2_mean_0 16 rfl rfl)
theorem dX2_mean_19 : decode cX2_mean 19 = .ok (.iload 4, 2) := dk_21 4 (dk_at dksX2_mean_0 19 rfl rfl)
theorem dX2_mean_21 : decode cX2_mean 21 = .ok (.iaload, 1) := dk_46 (dk_at dksX2_mean_0 21 rfl rfl)
theorem dX2_mean_22 : decode cX2_mean 22 = .ok (.iconst 1, 1) := dk_4 (dk_at dksX2_mean_0 22 rfl rfl)
theorem dX2_mean_23 : decode cX2_mean 23 = .ok (.if_icmp .ne 21, 3) := dk_160 0 21 (dk_at dksX2_mean_1 0 rfl rfl)
theorem dX2_mean_26 : decode cX2_mean 26 = .ok (.aload_n 0, 1) := dk_42 (dk_at dksX2_mean_1 3 rfl rfl)
theorem dX2_mean_27 : decode cX2_mean 27 = .ok (.getfield 132, 3) := dk_180 0 132 (dk_at dksX2_mean_1 4 rfl rfl)
theorem dX2_mean_30 : decode cX2_mean 30 = .ok (.iload 4, 2) := dk_21 4 (dk_at dksX2_mean_1 7 rfl rfl)
theorem dX2_mean_32 : decode cX2_mean 32 = .ok (.iaload, 1) := dk_46 (dk_at dksX2_mean_1 9 rfl rfl)
theorem dX2_mean_33 : decode cX2_mean 33 = .ok (.aload_n 0, 1) := dk_42 (dk_at dksX2_mean_1 10 rfl rfl)
theorem dX2_mean_34 : decode cX2_mean 34 = .ok (.getfield 135, 3) := dk_180 0 135 (dk_at dksX2_mean_1 11 rfl rfl)
theorem dX2_mean_37 : decode cX2_mean 37 = .ok (.iload 4, 2) := dk_21 4 (dk_at dksX2_mean_1 14 rfl rfl)
theorem dX2_mean_39 : decode cX2_mean 39 = .ok (.iaload, 1) := dk_46 (dk_at dksX2_mean_1 16 rfl rfl)
theorem dX2_mean_40 : decode cX2_mean 40 = .ok (.isub, 1) := dk_100 (dk_at dksX2_mean_1 17 rfl rfl)
theorem dX2_mean_41 : decode cX2_mean 41 = .ok (.goto 4, 3) := dk_167 0 4 (dk_at dksX2_mean_1 18 rfl rfl)
theorem dX2_mean_44 : decode cX2_mean 44 = .ok (.iconst 0, 1) := dk_3 (dk_at dksX2_mean_1 21 rfl rfl)
theorem dX2_mean_45 : decode cX2_mean 45 = .ok (.iadd, 1) := dk_96 (dk_at dksX2_mean_1 22 rfl rfl)
theorem dX2_mean_46 : decode cX2_mean 46 = .ok (.istore_n 2, 1) := dk_61 (dk_at dksX2_mean_1 23 rfl rfl)
theorem dX2_mean_47 : decode cX2_mean 47 = .ok (.iload_n 3, 1) := dk_29 (dk_at dksX2_mean_2 0 rfl rfl)
theorem dX2_mean_48 : decode cX2_mean 48 = .ok (.aload_n 0, 1) := dk_42 (dk_at dksX2_mean_2 1 rfl rfl)
theorem dX2_mean_49 : decode cX2_mean 49 = .ok (.getfield 129, 3) := dk_180 0 129 (dk_at dksX2_mean_2 2 rfl rfl)
theorem dX2_mean_52 : decode cX2_mean 52 = .ok (.iload 4, 2) := dk_21 4 (dk_at dksX2_mean_2 5 rfl rfl)
theorem dX2_mean_54 : decode cX2_mean 54 = .ok (.iaload, 1) := dk_46 (dk_at dksX2_mean_2 7 rfl rfl)
theorem dX2_mean_55 : decode cX2_mean 55 = .ok (.iconst 1, 1) := dk_4 (dk_at dksX2_mean_2 8 rfl rfl)
theorem dX2_mean_56 : decode cX2_mean 56 = .ok (.if_icmp .ne 7, 3) := dk_160 0 7 (dk_at dksX2_mean_2 9 rfl rfl)
theorem dX2_mean_59 : decode cX2_mean 59 = .ok (.iconst 1, 1) := dk_4 (dk_at dksX2_mean_2 12 rfl rfl)
theorem dX2_mean_60 : decode cX2_mean 60 = .ok (.goto 4, 3) := dk_167 0 4 (dk_at dksX2_mean_2 13 rfl rfl)
theorem dX2_mean_63 : decode cX2_mean 63 = .ok (.iconst 0, 1) := dk_3 (dk_at dksX2_mean_2 16 rfl rfl)
theorem dX2_mean_64 : decode cX2_mean 64 = .ok (.iadd, 1) := dk_96 (dk_at dksX2_mean_2 17 rfl rfl)
theorem dX2_mean_65 : decode cX2_mean 65 = .ok (.istore_n 3, 1) := dk_62 (dk_at dksX2_mean_2 18 rfl rfl)
theorem dX2_mean_66 : decode cX2_mean 66 = .ok (.iinc 4 1, 3) := dk_132 4 1 (dk_at dksX2_mean_2 19 rfl rfl)
theorem dX2_mean_69 : decode cX2_mean 69 = .ok (.goto (-62), 3) := dk_167 255 194 (dk_at dksX2_mean_3 0 rfl rfl)
theorem dX2_mean_72 : decode cX2_mean 72 = .ok (.iload_n 3, 1) := dk_29 (dk_at dksX2_mean_3 3 rfl rfl)
theorem dX2_mean_73 : decode cX2_mean 73 = .ok (.ifCond .ne 7, 3) := dk_154 0 7 (dk_at dksX2_mean_3 4 rfl rfl)
theorem dX2_mean_76 : decode cX2_mean 76 = .ok (.iconst (-1), 1) := dk_2 (dk_at dksX2_mean_3 7 rfl rfl)
theorem dX2_mean_77 : decode cX2_mean 77 = .ok (.goto 18, 3) := dk_167 0 18 (dk_at dksX2_mean_3 8 rfl rfl)
theorem dX2_mean_80 : decode cX2_mean 80 = .ok (.iload_n 1, 1) := dk_27 (dk_at dksX2_mean_3 11 rfl rfl)
theorem dX2_mean_81 : decode cX2_mean 81 = .ok (.ifCond .eq 7, 3) := dk_153 0 7 (dk_at dksX2_mean_3 12 rfl rfl)
theorem dX2_mean_84 : decode cX2_mean 84 = .ok (.iload_n 3, 1) := dk_29 (dk_at dksX2_mean_3 15 rfl rfl)
theorem dX2_mean_85 : decode cX2_mean 85 = .ok (.goto 4, 3) := dk_167 0 4 (dk_at dksX2_mean_3 16 rfl rfl)
theorem dX2_mean_88 : decode cX2_mean 88 = .ok (.iload_n 2, 1) := dk_28 (dk_at dksX2_mean_3 19 rfl rfl)
theorem dX2_mean_89 : decode cX2_mean 89 = .ok (.iload_n 3, 1) := dk_29 (dk_at dksX2_mean_3 20 rfl rfl)
theorem dX2_mean_90 : decode cX2_mean 90 = .ok (.iload_n 2, 1) := dk_28 (dk_at dksX2_mean_3 21 rfl rfl)
theorem dX2_mean_91 : decode cX2_mean 91 = .ok (.invokestatic 622, 3) := dk_184 2 110 (dk_at dksX2_mean_4 0 rfl rfl)
theorem dX2_mean_94 : decode cX2_mean 94 = .ok (.idiv, 1) := dk_108 (dk_at dksX2_mean_4 3 rfl rfl)
theorem dX2_mean_95 : decode cX2_mean 95 = .ok (.ireturn, 1) := dk_172 (dk_at dksX2_mean_4 4 rfl rfl)
abbrev cX2_common : ByteArray := prog_25_method_121_code
def yX2_common : MethodName := ⟨RX2, "common", "(II)I"⟩
def dkwX2_common_0 : List UInt8 := [26, 61, 27, 62, 29, 153, 0, 16, 28, 29, 112, 54, 4, 29, 61, 21, 4, 62, 167, 255, 242, 28, 172]
abbrev dktX2_common_0 : List UInt8 := dkwX2_common_0 ++ []
theorem dksX2_common_0 : cX2_common.data.toList.drop 0 = dktX2_common_0 := by decide +kernel
theorem dX2_common_0 : decode cX2_common 0 = .ok (.iload_n 0, 1) := dk_26 (dk_at dksX2_common_0 0 rfl rfl)
theorem dX2_common_1 : decode cX2_common 1 = .ok (.istore_n 2, 1) := dk_61 (dk_at dksX2_common_0 1 rfl rfl)
theorem dX2_common_2 : decode cX2_common 2 = .ok (.iload_n 1, 1) := dk_27 (dk_at dksX2_common_0 2 rfl rfl)
theorem dX2_common_3 : decode cX2_common 3 = .ok (.istore_n 3, 1) := dk_62 (dk_at dksX2_common_0 3 rfl rfl)
theorem dX2_common_4 : decode cX2_common 4 = .ok (.iload_n 3, 1) := dk_29 (dk_at dksX2_common_0 4 rfl rfl)
theorem dX2_common_5 : decode cX2_common 5 = .ok (.ifCond .eq 16, 3) := dk_153 0 16 (dk_at dksX2_common_0 5 rfl rfl)
theorem dX2_common_8 : decode cX2_common 8 = .ok (.iload_n 2, 1) := dk_28 (dk_at dksX2_common_0 8 rfl rfl)
theorem dX2_common_9 : decode cX2_common 9 = .ok (.iload_n 3, 1) := dk_29 (dk_at dksX2_common_0 9 rfl rfl)
theorem dX2_common_10 : decode cX2_common 10 = .ok (.irem, 1) := dk_112 (dk_at dksX2_common_0 10 rfl rfl)
theorem dX2_common_11 : decode cX2_common 11 = .ok (.istore 4, 2) := dk_54 4 (dk_at dksX2_common_0 11 rfl rfl)
theorem dX2_common_13 : decode cX2_common 13 = .ok (.iload_n 3, 1) := dk_29 (dk_at dksX2_common_0 13 rfl rfl)
theorem dX2_common_14 : decode cX2_common 14 = .ok (.istore_n 2, 1) := dk_61 (dk_at dksX2_common_0 14 rfl rfl)
theorem dX2_common_15 : decode cX2_common 15 = .ok (.iload 4, 2) := dk_21 4 (dk_at dksX2_common_0 15 rfl rfl)
theorem dX2_common_17 : decode cX2_common 17 = .ok (.istore_n 3, 1) := dk_62 (dk_at dksX2_common_0 17 rfl rfl)
theorem dX2_common_18 : decode cX2_common 18 = .ok (.goto (-14), 3) := dk_167 255 242 (dk_at dksX2_common_0 18 rfl rfl)
theorem dX2_common_21 : decode cX2_common 21 = .ok (.iload_n 2, 1) := dk_28 (dk_at dksX2_common_0 21 rfl rfl)
theorem dX2_common_22 : decode cX2_common 22 = .ok (.ireturn, 1) := dk_172 (dk_at dksX2_common_0 22 rfl rfl)
abbrev cX2_edges : ByteArray := prog_25_method_127_code
def yX2_edges : MethodName := ⟨RX2, "edges", "(II)I"⟩
def dkwX2_edges_9 : List UInt8 := [132, 4, 1, 167, 255, 78, 29, 172]
abbrev dktX2_edges_9 : List UInt8 := dkwX2_edges_9 ++ []
def dkwX2_edges_8 : List UInt8 := [154, 0, 13, 42, 21, 4, 3, 182, 1, 113, 167, 0, 5, 21, 4, 120, 167, 0, 4, 3, 128, 62]
abbrev dktX2_edges_8 : List UInt8 := dkwX2_edges_8 ++ dktX2_edges_9
def dkwX2_edges_7 : List UInt8 := [21, 4, 182, 2, 123, 153, 0, 7, 4, 167, 0, 4, 3, 54, 5, 29, 21, 5, 153, 0, 24, 4, 28]
abbrev dktX2_edges_7 : List UInt8 := dkwX2_edges_7 ++ dktX2_edges_8
def dkwX2_edges_6 : List UInt8 := [21, 4, 3, 182, 1, 104, 42, 21, 4, 5, 182, 1, 104, 182, 1, 152, 154, 0, 19, 167, 0, 12, 42]
abbrev dktX2_edges_6 : List UInt8 := dkwX2_edges_6 ++ dktX2_edges_7
def dkwX2_edges_5 : List UInt8 := [167, 0, 59, 3, 167, 0, 55, 21, 4, 42, 182, 1, 101, 162, 0, 45, 28, 5, 160, 0, 27, 42, 42]
abbrev dktX2_edges_5 : List UInt8 := dkwX2_edges_5 ++ dktX2_edges_6
def dkwX2_edges_4 : List UInt8 := [28, 7, 160, 0, 29, 21, 4, 42, 182, 1, 110, 162, 0, 16, 42, 21, 4, 182, 2, 120, 153, 0, 7, 4]
abbrev dktX2_edges_4 : List UInt8 := dkwX2_edges_4 ++ dktX2_edges_5
def dkwX2_edges_3 : List UInt8 := [182, 1, 119, 153, 0, 17, 42, 21, 4, 182, 2, 117, 4, 160, 0, 7, 4, 167, 0, 90, 3, 167, 0, 86]
abbrev dktX2_edges_3 : List UInt8 := dkwX2_edges_3 ++ dktX2_edges_4
def dkwX2_edges_2 : List UInt8 := [182, 1, 110, 162, 0, 7, 4, 167, 0, 122, 3, 167, 0, 118, 28, 4, 160, 0, 30, 42, 21, 4]
abbrev dktX2_edges_2 : List UInt8 := dkwX2_edges_2 ++ dktX2_edges_3
def dkwX2_edges_1 : List UInt8 := [42, 2, 182, 2, 37, 3, 62, 3, 54, 4, 21, 4, 16, 12, 162, 0, 177, 28, 154, 0, 20, 21, 4, 42]
abbrev dktX2_edges_1 : List UInt8 := dkwX2_edges_1 ++ dktX2_edges_2
def dkwX2_edges_0 : List UInt8 := [42, 3, 181, 0, 169, 42, 27, 182, 1, 116, 153, 0, 12, 28, 3, 7, 184, 0, 181, 154, 0, 5, 2, 172]
abbrev dktX2_edges_0 : List UInt8 := dkwX2_edges_0 ++ dktX2_edges_1
theorem dksX2_edges_0 : cX2_edges.data.toList.drop 0 = dktX2_edges_0 := by decide +kernel
theorem dksX2_edges_1 : cX2_edges.data.toList.drop 24 = dktX2_edges_1 := dk_seg dksX2_edges_0 24 rfl rfl
theorem dksX2_edges_2 : cX2_edges.data.toList.drop 48 = dktX2_edges_2 := dk_seg dksX2_edges_1 24 rfl rfl
theorem dksX2_edges_3 : cX2_edges.data.toList.drop 70 = dktX2_edges_3 := dk_seg dksX2_edges_2 22 rfl rfl
theorem dksX2_edges_4 : cX2_edges.data.toList.drop 94 = dktX2_edges_4 := dk_seg dksX2_edges_3 24 rfl rfl
theorem dksX2_edges_5 : cX2_edges.data.toList.drop 118 = dktX2_edges_5 := dk_seg dksX2_edges_4 24 rfl rfl
theorem dksX2_edges_6 : cX2_edges.data.toList.drop 141 = dktX2_edges_6 := dk_seg dksX2_edges_5 23 rfl rfl
theorem dksX2_edges_7 : cX2_edges.data.toList.drop 164 = dktX2_edges_7 := dk_seg dksX2_edges_6 23 rfl rfl
theorem dksX2_edges_8 : cX2_edges.data.toList.drop 187 = dktX2_edges_8 := dk_seg dksX2_edges_7 23 rfl rfl
theorem dksX2_edges_9 : cX2_edges.data.toList.drop 209 = dktX2_edges_9 := dk_seg dksX2_edges_8 22 rfl rfl
theorem dX2_edges_0 : decode cX2_edges 0 = .ok (.aload_n 0, 1) := dk_42 (dk_at dksX2_edges_0 0 rfl rfl)
theorem dX2_edges_1 : decode cX2_edges 1 = .ok (.iconst 0, 1) := dk_3 (dk_at dksX2_edges_0 1 rfl rfl)
theorem dX2_edges_2 : decode cX2_edges 2 = .ok (.putfield 169, 3) := dk_181 0 169 (dk_at dksX2_edges_0 2 rfl rfl)
theorem dX2_edges_5 : decode cX2_edges 5 = .ok (.aload_n 0, 1) := dk_42 (dk_at dksX2_edges_0 5 rfl rfl)
theorem dX2_edges_6 : decode cX2_edges 6 = .ok (.iload_n 1, 1) := dk_27 (dk_at dksX2_edges_0 6 rfl rfl)
theorem dX2_edges_7 : decode cX2_edges 7 = .ok (.invokevirtual 372, 3) := dk_182 1 116 (dk_at dksX2_edges_0 7 rfl rfl)
theorem dX2_edges_10 : decode cX2_edges 10 = .ok (.ifCond .eq 12, 3) := dk_153 0 12 (dk_at dksX2_edges_0 10 rfl rfl)
theorem dX2_edges_13 : decode cX2_edges 13 = .ok (.iload_n 2, 1) := dk_28 (dk_at dksX2_edges_0 13 rfl rfl)
theorem dX2_edges_14 : decode cX2_edges 14 = .ok (.iconst 0, 1) := dk_3 (dk_at dksX2_edges_0 14 rfl rfl)
theorem dX2_edges_15 : decode cX2_edges 15 = .ok (.iconst 4, 1) := dk_7 (dk_at dksX2_edges_0 15 rfl rfl)
theorem dX2_edges_16 : decode cX2_edges 16 = .ok (.invokestatic 181, 3) := dk_184 0 181 (dk_at dksX2_edges_0 16 rfl rfl)
theorem dX2_edges_19 : decode cX2_edges 19 = .ok (.ifCond .ne 5, 3) := dk_154 0 5 (dk_at dksX2_edges_0 19 rfl rfl)
theorem dX2_edges_22 : decode cX2_edges 22 = .ok (.iconst (-1), 1) := dk_2 (dk_at dksX2_edges_0 22 rfl rfl)
theorem dX2_edges_23 : decode cX2_edges 23 = .ok (.ireturn, 1) := dk_172 (dk_at dksX2_edges_0 23 rfl rfl)
theorem dX2_edges_24 : decode cX2_edges 24 = .ok (.aload_n 0, 1) := dk_42 (dk_at dksX2_edges_1 0 rfl rfl)
theorem dX2_edges_25 : decode cX2_edges 25 = .ok (.iconst (-1), 1) := dk_2 (dk_at dksX2_edges_1 1 rfl rfl)
theorem dX2_edges_26 : decode cX2_edges 26 = .ok (.invokevirtual 549, 3) := dk_182 2 37 (dk_at dksX2_edges_1 2 rfl rfl)
theorem dX2_edges_29 : decode cX2_edges 29 = .ok (.iconst 0, 1) := dk_3 (dk_at dksX2_edges_1 5 rfl rfl)
theorem dX2_edges_30 : decode cX2_edges 30 = .ok (.istore_n 3, 1) := dk_62 (dk_at dksX2_edges_1 6 rfl rfl)
theorem dX2_edges_31 : decode cX2_edges 31 = .ok (.iconst 0, 1) := dk_3 (dk_at dksX2_edges_1 7 rfl rfl)
theorem dX2_edges_32 : decode cX2_edges 32 = .ok (.istore 4, 2) := dk_54 4 (dk_at dksX2_edges_1 8 rfl rfl)
theorem dX2_edges_34 : decode cX2_edges 34 = .ok (.iload 4, 2) := dk_21 4 (dk_at dksX2_edges_1 10 rfl rfl)
theorem dX2_edges_36 : decode cX2_edges 36 = .ok (.bipush 12, 2) := dk_16 12 (dk_at dksX2_edges_1 12 rfl rfl)
theorem dX2_edges_38 : decode cX2_edges 38 = .ok (.if_icmp .ge 177, 3) := dk_162 0 177 (dk_at dksX2_edges_1 14 rfl rfl)
theorem dX2_edges_41 : decode cX2_edges 41 = .ok (.iload_n 2, 1) := dk_28 (dk_at dksX2_edges_1 17 rfl rfl)
theorem dX2_edges_42 : decode cX2_edges 42 = .ok (.ifCond .ne 20, 3) := dk_154 0 20 (dk_at dksX2_edges_1 18 rfl rfl)
theorem dX2_edges_45 : decode cX2_edges 45 = .ok (.iload 4, 2) := dk_21 4 (dk_at dksX2_edges_1 21 rfl rfl)
theorem dX2_edges_47 : decode cX2_edges 47 = .ok (.aload_n 0, 1) := dk_42 (dk_at dksX2_edges_1 23 rfl rfl)
theorem dX2_edges_48 : decode cX2_edges 48 = .ok (.invokevirtual 366, 3) := dk_182 1 110 (dk_at dksX2_edges_2 0 rfl rfl)
theorem dX2_edges_51 : decode cX2_edges 51 = .ok (.if_icmp .ge 7, 3) := dk_162 0 7 (dk_at dksX2_edges_2 3 rfl rfl)
theorem dX2_edges_54 : decode cX2_edges 54 = .ok (.iconst 1, 1) := dk_4 (dk_at dksX2_edges_2 6 rfl rfl)
theorem dX2_edges_55 : decode cX2_edges 55 = .ok (.goto 122, 3) := dk_167 0 122 (dk_at dksX2_edges_2 7 rfl rfl)
theorem dX2_edges_58 : decode cX2_edges 58 = .ok (.iconst 0, 1) := dk_3 (dk_at dksX2_edges_2 10 rfl rfl)
theorem dX2_edges_59 : decode cX2_edges 59 = .ok (.goto 118, 3) := dk_167 0 118 (dk_at dksX2_edges_2 11 rfl rfl)
theorem dX2_edges_62 : decode cX2_edges 62 = .ok (.iload_n 2, 1) := dk_28 (dk_at dksX2_edges_2 14 rfl rfl)
theorem dX2_edges_63 : decode cX2_edges 63 = .ok (.iconst 1, 1) := dk_4 (dk_at dksX2_edges_2 15 rfl rfl)
theorem dX2_edges_64 : decode cX2_edges 64 = .ok (.if_icmp .ne 30, 3) := dk_160 0 30 (dk_at dksX2_edges_2 16 rfl rfl)
theorem dX2_edges_67 : decode cX2_edges 67 = .ok (.aload_n 0, 1) := dk_42 (dk_at dksX2_edges_2 19 rfl rfl)
theorem dX2_edges_68 : decode cX2_edges 68 = .ok (.iload 4, 2) := dk_21 4 (dk_at dksX2_edges_2 20 rfl rfl)
theorem dX2_edges_70 : decode cX2_edges 70 = .ok (.invokevirtual 375, 3) := dk_182 1 119 (dk_at dksX2_edges_3 0 rfl rfl)
theorem dX2_edges_73 : decode cX2_edges 73 = .ok (.ifCond .eq 17, 3) := dk_153 0 17 (dk_at dksX2_edges_3 3 rfl rfl)
theorem dX2_edges_76 : decode cX2_edges 76 = .ok (.aload_n 0, 1) := dk_42 (dk_at dksX2_edges_3 6 rfl rfl)
theorem dX2_edges_77 : decode cX2_edges 77 = .ok (.iload 4, 2) := dk_21 4 (dk_at dksX2_edges_3 7 rfl rfl)
theorem dX2_edges_79 : decode cX2_edges 79 = .ok (.invokevirtual 629, 3) := dk_182 2 117 (dk_at dksX2_edges_3 9 rfl rfl)
theorem dX2_edges_82 : decode cX2_edges 82 = .ok (.iconst 1, 1) := dk_4 (dk_at dksX2_edges_3 12 rfl rfl)
theorem dX2_edges_83 : decode cX2_edges 83 = .ok (.if_icmp .ne 7, 3) := dk_160 0 7 (dk_at dksX2_edges_3 13 rfl rfl)
theorem dX2_edges_86 : decode cX2_edges 86 = .ok (.iconst 1, 1) := dk_4 (dk_at dksX2_edges_3 16 rfl rfl)
theorem dX2_edges_87 : decode cX2_edges 87 = .ok (.goto 90, 3) := dk_167 0 90 (dk_at dksX2_edges_3 17 rfl rfl)
theorem dX2_edges_90 : decode cX2_edges 90 = .ok (.iconst 0, 1) := dk_3 (dk_at dksX2_edges_3 20 rfl rfl)
theorem dX2_edges_91 : decode cX2_edges 91 = .ok (.goto 86, 3) := dk_167 0 86 (dk_at dksX2_edges_3 21 rfl rfl)
theorem dX2_edges_94 : decode cX2_edges 94 = .ok (.iload_n 2, 1) := dk_28 (dk_at dksX2_edges_4 0 rfl rfl)
theorem dX2_edges_95 : decode cX2_edges 95 = .ok (.iconst 4, 1) := dk_7 (dk_at dksX2_edges_4 1 rfl rfl)
theorem dX2_edges_96 : decode cX2_edges 96 = .ok (.if_icmp .ne 29, 3) := dk_160 0 29 (dk_at dksX2_edges_4 2 rfl rfl)
theorem dX2_edges_99 : decode cX2_edges 99 = .ok (.iload 4, 2) := dk_21 4 (dk_at dksX2_edges_4 5 rfl rfl)
theorem dX2_edges_101 : decode cX2_edges 101 = .ok (.aload_n 0, 1) := dk_42 (dk_at dksX2_edges_4 7 rfl rfl)
theorem dX2_edges_102 : decode cX2_edges 102 = .ok (.invokevirtual 366, 3) := dk_182 1 110 (dk_at dksX2_edges_4 8 rfl rfl)
theorem dX2_edges_105 : decode cX2_edges 105 = .ok (.if_icmp .ge 16, 3) := dk_162 0 16 (dk_at dksX2_edges_4 11 rfl rfl)
theorem dX2_edges_108 : decode cX2_edges 108 = .ok (.aload_n 0, 1) := dk_42 (dk_at dksX2_edges_4 14 rfl rfl)
theorem dX2_edges_109 : decode cX2_edges 109 = .ok (.iload 4, 2) := dk_21 4 (dk_at dksX2_edges_4 15 rfl rfl)
theorem dX2_edges_111 : decode cX2_edges 111 = .ok (.invokevirtual 632, 3) := dk_182 2 120 (dk_at dksX2_edges_4 17 rfl rfl)
theorem dX2_edges_114 : decode cX2_edges 114 = .ok (.ifCond .eq 7, 3) := dk_153 0 7 (dk_at dksX2_edges_4 20 rfl rfl)
theorem dX2_edges_117 : decode cX2_edges 117 = .ok (.iconst 1, 1) := dk_4 (dk_at dksX2_edges_4 23 rfl rfl)
theorem dX2_edges_118 : decode cX2_edges 118 = .ok (.goto 59, 3) := dk_167 0 59 (dk_at dksX2_edges_5 0 rfl rfl)
theorem dX2_edges_121 : decode cX2_edges 121 = .ok (.iconst 0, 1) := dk_3 (dk_at dksX2_edges_5 3 rfl rfl)
theorem dX2_edges_122 : decode cX2_edges 122 = .ok (.goto 55, 3) := dk_167 0 55 (dk_at dksX2_edges_5 4 rfl rfl)
theorem dX2_edges_125 : decode cX2_edges 125 = .ok (.iload 4, 2) := dk_21 4 (dk_at dksX2_edges_5 7 rfl rfl)
theorem dX2_edges_127 : decode cX2_edges 127 = .ok (.aload_n 0, 1) := dk_42 (dk_at dksX2_edges_5 9 rfl rfl)
theorem dX2_edges_128 : decode cX2_edges 128 = .ok (.invokevirtual 357, 3) := dk_182 1 101 (dk_at dksX2_edges_5 10 rfl rfl)
theorem dX2_edges_131 : decode cX2_edges 131 = .ok (.if_icmp .ge 45, 3) := dk_162 0 45 (dk_at dksX2_edges_5 13 rfl rfl)
theorem dX2_edges_134 : decode cX2_edges 134 = .ok (.iload_n 2, 1) := dk_28 (dk_at dksX2_edges_5 16 rfl rfl)
theorem dX2_edges_135 : decode cX2_edges 135 = .ok (.iconst 2, 1) := dk_5 (dk_at dksX2_edges_5 17 rfl rfl)
theorem dX2_edges_136 : decode cX2_edges 136 = .ok (.if_icmp .ne 27, 3) := dk_160 0 27 (dk_at dksX2_edges_5 18 rfl rfl)
theorem dX2_edges_139 : decode cX2_edges 139 = .ok (.aload_n 0, 1) := dk_42 (dk_at dksX2_edges_5 21 rfl rfl)
theorem dX2_edges_140 : decode cX2_edges 140 = .ok (.aload_n 0, 1) := dk_42 (dk_at dksX2_edges_5 22 rfl rfl)
theorem dX2_edges_141 : decode cX2_edges 141 = .ok (.iload 4, 2) := dk_21 4 (dk_at dksX2_edges_6 0 rfl rfl)
theorem dX2_edges_143 : decode cX2_edges 143 = .ok (.iconst 0, 1) := dk_3 (dk_at dksX2_edges_6 2 rfl rfl)
theorem dX2_edges_144 : decode cX2_edges 144 = .ok (.invokevirtual 360, 3) := dk_182 1 104 (dk_at dksX2_edges_6 3 rfl rfl)
theorem dX2_edges_147 : decode cX2_edges 147 = .ok (.aload_n 0, 1) := dk_42 (dk_at dksX2_edges_6 6 rfl rfl)
theorem dX2_edges_148 : decode cX2_edges 148 = .ok (.iload 4, 2) := dk_21 4 (dk_at dksX2_edges_6 7 rfl rfl)
theorem dX2_edges_150 : decode cX2_edges 150 = .ok (.iconst 2, 1) := dk_5 (dk_at dksX2_edges_6 9 rfl rfl)
theorem dX2_edges_151 : decode cX2_edges 151 = .ok (.invokevirtual 360, 3) := dk_182 1 104 (dk_at dksX2_edges_6 10 rfl rfl)
theorem dX2_edges_154 : decode cX2_edges 154 = .ok (.invokevirtual 408, 3) := dk_182 1 152 (dk_at dksX2_edges_6 13 rfl rfl)
theorem dX2_edges_157 : decode cX2_edges 157 = .ok (.ifCond .ne 19, 3) := dk_154 0 19 (dk_at dksX2_edges_6 16 rfl rfl)
theorem dX2_edges_160 : decode cX2_edges 160 = .ok (.goto 12, 3) := dk_167 0 12 (dk_at dksX2_edges_6 19 rfl rfl)
theorem dX2_edges_163 : decode cX2_edges 163 = .ok (.aload_n 0, 1) := dk_42 (dk_at dksX2_edges_6 22 rfl rfl)
theorem dX2_edges_164 : decode cX2_edges 164 = .ok (.iload 4, 2) := dk_21 4 (dk_at dksX2_edges_7 0 rfl rfl)
theorem dX2_edges_166 : decode cX2_edges 166 = .ok (.invokevirtual 635, 3) := dk_182 2 123 (dk_at dksX2_edges_7 2 rfl rfl)
theorem dX2_edges_169 : decode cX2_edges 169 = .ok (.ifCond .eq 7, 3) := dk_153 0 7 (dk_at dksX2_edges_7 5 rfl rfl)
theorem dX2_edges_172 : decode cX2_edges 172 = .ok (.iconst 1, 1) := dk_4 (dk_at dksX2_edges_7 8 rfl rfl)
theorem dX2_edges_173 : decode cX2_edges 173 = .ok (.goto 4, 3) := dk_167 0 4 (dk_at dksX2_edges_7 9 rfl rfl)
theorem dX2_edges_176 : decode cX2_edges 176 = .ok (.iconst 0, 1) := dk_3 (dk_at dksX2_edges_7 12 rfl rfl)
theorem dX2_edges_177 : decode cX2_edges 177 = .ok (.istore 5, 2) := dk_54 5 (dk_at dksX2_edges_7 13 rfl rfl)
theorem dX2_edges_179 : decode cX2_edges 179 = .ok (.iload_n 3, 1) := dk_29 (dk_at dksX2_edges_7 15 rfl rfl)
theorem dX2_edges_180 : decode cX2_edges 180 = .ok (.iload 5, 2) := dk_21 5 (dk_at dksX2_edges_7 16 rfl rfl)
theorem dX2_edges_182 : decode cX2_edges 182 = .ok (.ifCond .eq 24, 3) := dk_153 0 24 (dk_at dksX2_edges_7 18 rfl rfl)
theorem dX2_edges_185 : decode cX2_edges 185 = .ok (.iconst 1, 1) := dk_4 (dk_at dksX2_edges_7 21 rfl rfl)
theorem dX2_edges_186 : decode cX2_edges 186 = .ok (.iload_n 2, 1) := dk_28 (dk_at dksX2_edges_7 22 rfl rfl)
theorem dX2_edges_187 : decode cX2_edges 187 = .ok (.ifCond .ne 13, 3) := dk_154 0 13 (dk_at dksX2_edges_8 0 rfl rfl)
theorem dX2_edges_190 : decode cX2_edges 190 = .ok (.aload_n 0, 1) := dk_42 (dk_at dksX2_edges_8 3 rfl rfl)
theorem dX2_edges_191 : decode cX2_edges 191 = .ok (.iload 4, 2) := dk_21 4 (dk_at dksX2_edges_8 4 rfl rfl)
theorem dX2_edges_193 : decode cX2_edges 193 = .ok (.iconst 0, 1) := dk_3 (dk_at dksX2_edges_8 6 rfl rfl)
theorem dX2_edges_194 : decode cX2_edges 194 = .ok (.invokevirtual 369, 3) := dk_182 1 113 (dk_at dksX2_edges_8 7 rfl rfl)
theorem dX2_edges_197 : decode cX2_edges 197 = .ok (.goto 5, 3) := dk_167 0 5 (dk_at dksX2_edges_8 10 rfl rfl)
theorem dX2_edges_200 : decode cX2_edges 200 = .ok (.iload 4, 2) := dk_21 4 (dk_at dksX2_edges_8 13 rfl rfl)
theorem dX2_edges_202 : decode cX2_edges 202 = .ok (.ishl, 1) := dk_120 (dk_at dksX2_edges_8 15 rfl rfl)
theorem dX2_edges_203 : decode cX2_edges 203 = .ok (.goto 4, 3) := dk_167 0 4 (dk_at dksX2_edges_8 16 rfl rfl)
theorem dX2_edges_206 : decode cX2_edges 206 = .ok (.iconst 0, 1) := dk_3 (dk_at dksX2_edges_8 19 rfl rfl)
theorem dX2_edges_207 : decode cX2_edges 207 = .ok (.ior, 1) := dk_128 (dk_at dksX2_edges_8 20 rfl rfl)
theorem dX2_edges_208 : decode cX2_edges 208 = .ok (.istore_n 3, 1) := dk_62 (dk_at dksX2_edges_8 21 rfl rfl)
theorem dX2_edges_209 : decode cX2_edges 209 = .ok (.iinc 4 1, 3) := dk_132 4 1 (dk_at dksX2_edges_9 0 rfl rfl)
theorem dX2_edges_212 : decode cX2_edges 212 = .ok (.goto (-178), 3) := dk_167 255 78 (dk_at dksX2_edges_9 3 rfl rfl)
theorem dX2_edges_215 : decode cX2_edges 215 = .ok (.iload_n 3, 1) := dk_29 (dk_at dksX2_edges_9 6 rfl rfl)
theorem dX2_edges_216 : decode cX2_edges 216 = .ok (.ireturn, 1) := dk_172 (dk_at dksX2_edges_9 7 rfl rfl)
abbrev cX2_linksAt : ByteArray := prog_25_method_124_code
def yX2_linksAt : MethodName := ⟨RX2, "linksAt", "(I)I"⟩
def dkwX2_linksAt_1 : List UInt8 := [29, 4, 182, 1, 92, 27, 160, 0, 7, 4, 167, 0, 4, 3, 96, 61, 132, 3, 1, 167, 255, 217, 28, 172]
abbrev dktX2_linksAt_1 : List UInt8 := dkwX2_linksAt_1 ++ []
def dkwX2_linksAt_0 : List UInt8 := [3, 61, 3, 62, 29, 42, 182, 1, 89, 162, 0, 37, 28, 42, 29, 3, 182, 1, 92, 27, 159, 0, 13, 42]
abbrev dktX2_linksAt_0 : List UInt8 := dkwX2_linksAt_0 ++ dktX2_linksAt_1
theorem dksX2_linksAt_0 : cX2_linksAt.data.toList.drop 0 = dktX2_linksAt_0 := by decide +kernel
theorem dksX2_linksAt_1 : cX2_linksAt.data.toList.drop 24 = dktX2_linksAt_1 := dk_seg dksX2_linksAt_0 24 rfl rfl
theorem dX2_linksAt_0 : decode cX2_linksAt 0 = .ok (.iconst 0, 1) := dk_3 (dk_at dksX2_linksAt_0 0 rfl rfl)
theorem dX2_linksAt_1 : decode cX2_linksAt 1 = .ok (.istore_n 2, 1) := dk_61 (dk_at dksX2_linksAt_0 1 rfl rfl)
theorem dX2_linksAt_2 : decode cX2_linksAt 2 = .ok (.iconst 0, 1) := dk_3 (dk_at dksX2_linksAt_0 2 rfl rfl)
theorem dX2_linksAt_3 : decode cX2_linksAt 3 = .ok (.istore_n 3, 1) := dk_62 (dk_at dksX2_linksAt_0 3 rfl rfl)
theorem dX2_linksAt_4 : decode cX2_linksAt 4 = .ok (.iload_n 3, 1) := dk_29 (dk_at dksX2_linksAt_0 4 rfl rfl)
theorem dX2_linksAt_5 : decode cX2_linksAt 5 = .ok (.aload_n 0, 1) := dk_42 (dk_at dksX2_linksAt_0 5 rfl rfl)
theorem dX2_linksAt_6 : decode cX2_linksAt 6 = .ok (.invokevirtual 345, 3) := dk_182 1 89 (dk_at dksX2_linksAt_0 6 rfl rfl)
theorem dX2_linksAt_9 : decode cX2_linksAt 9 = .ok (.if_icmp .ge 37, 3) := dk_162 0 37 (dk_at dksX2_linksAt_0 9 rfl rfl)
theorem dX2_linksAt_12 : decode cX2_linksAt 12 = .ok (.iload_n 2, 1) := dk_28 (dk_at dksX2_linksAt_0 12 rfl rfl)
theorem dX2_linksAt_13 : decode cX2_linksAt 13 = .ok (.aload_n 0, 1) := dk_42 (dk_at dksX2_linksAt_0 13 rfl rfl)
theorem dX2_linksAt_14 : decode cX2_linksAt 14 = .ok (.iload_n 3, 1) := dk_29 (dk_at dksX2_linksAt_0 14 rfl rfl)
theorem dX2_linksAt_15 : decode cX2_linksAt 15 = .ok (.iconst 0, 1) := dk_3 (dk_at dksX2_linksAt_0 15 rfl rfl)
theorem dX2_linksAt_16 : decode cX2_linksAt 16 = .ok (.invokevirtual 348, 3) := dk_182 1 92 (dk_at dksX2_linksAt_0 16 rfl rfl)
theorem dX2_linksAt_19 : decode cX2_linksAt 19 = .ok (.iload_n 1, 1) := dk_27 (dk_at dksX2_linksAt_0 19 rfl rfl)
theorem dX2_linksAt_20 : decode cX2_linksAt 20 = .ok (.if_icmp .eq 13, 3) := dk_159 0 13 (dk_at dksX2_linksAt_0 20 rfl rfl)
theorem dX2_linksAt_23 : decode cX2_linksAt 23 = .ok (.aload_n 0, 1) := dk_42 (dk_at dksX2_linksAt_0 23 rfl rfl)
theorem dX2_linksAt_24 : decode cX2_linksAt 24 = .ok (.iload_n 3, 1) := dk_29 (dk_at dksX2_linksAt_1 0 rfl rfl)
theorem dX2_linksAt_25 : decode cX2_linksAt 25 = .ok (.iconst 1, 1) := dk_4 (dk_at dksX2_linksAt_1 1 rfl rfl)
theorem dX2_linksAt_26 : decode cX2_linksAt 26 = .ok (.invokevirtual 348, 3) := dk_182 1 92 (dk_at dksX2_linksAt_1 2 rfl rfl)
theorem dX2_linksAt_29 : decode cX2_linksAt 29 = .ok (.iload_n 1, 1) := dk_27 (dk_at dksX2_linksAt_1 5 rfl rfl)
theorem dX2_linksAt_30 : decode cX2_linksAt 30 = .ok (.if_icmp .ne 7, 3) := dk_160 0 7 (dk_at dksX2_linksAt_1 6 rfl rfl)
theorem dX2_linksAt_33 : decode cX2_linksAt 33 = .ok (.iconst 1, 1) := dk_4 (dk_at dksX2_linksAt_1 9 rfl rfl)
theorem dX2_linksAt_34 : decode cX2_linksAt 34 = .ok (.goto 4, 3) := dk_167 0 4 (dk_at dksX2_linksAt_1 10 rfl rfl)
theorem dX2_linksAt_37 : decode cX2_linksAt 37 = .ok (.iconst 0, 1) := dk_3 (dk_at dksX2_linksAt_1 13 rfl rfl)
theorem dX2_linksAt_38 : decode cX2_linksAt 38 = .ok (.iadd, 1) := dk_96 (dk_at dksX2_linksAt_1 14 rfl rfl)
theorem dX2_linksAt_39 : decode cX2_linksAt 39 = .ok (.istore_n 2, 1) := dk_61 (dk_at dksX2_linksAt_1 15 rfl rfl)
theorem dX2_linksAt_40 : decode cX2_linksAt 40 = .ok (.iinc 3 1, 3) := dk_132 3 1 (dk_at dksX2_linksAt_1 16 rfl rfl)
theorem dX2_linksAt_43 : decode cX2_linksAt 43 = .ok (.goto (-39), 3) := dk_167 255 217 (dk_at dksX2_linksAt_1 19 rfl rfl)
theorem dX2_linksAt_46 : decode cX2_linksAt 46 = .ok (.iload_n 2, 1) := dk_28 (dk_at dksX2_linksAt_1 22 rfl rfl)
theorem dX2_linksAt_47 : decode cX2_linksAt 47 = .ok (.ireturn, 1) := dk_172 (dk_at dksX2_linksAt_1 23 rfl rfl)
abbrev cX2_isServed : ByteArray := prog_25_method_126_code
def yX2_isServed : MethodName := ⟨RX2, "isServed", "(I)Z"⟩
def dkwX2_isServed_2 : List UInt8 := [4, 172, 132, 2, 1, 167, 255, 205, 3, 172]
abbrev dktX2_isServed_2 : List UInt8 := dkwX2_isServed_2 ++ []
def dkwX2_isServed_1 : List UInt8 := [182, 1, 113, 160, 0, 23, 42, 28, 4, 182, 1, 113, 42, 27, 4, 182, 1, 113, 184, 1, 107, 153, 0, 5]
abbrev dktX2_isServed_1 : List UInt8 := dkwX2_isServed_1 ++ dktX2_isServed_2
def dkwX2_isServed_0 : List UInt8 := [3, 61, 28, 42, 182, 1, 110, 162, 0, 49, 28, 27, 159, 0, 38, 42, 28, 3, 182, 1, 113, 42, 27, 3]
abbrev dktX2_isServed_0 : List UInt8 := dkwX2_isServed_0 ++ dktX2_isServed_1
theorem dksX2_isServed_0 : cX2_isServed.data.toList.drop 0 = dktX2_isServed_0 := by decide +kernel
theorem dksX2_isServed_1 : cX2_isServed.data.toList.drop 24 = dktX2_isServed_1 := dk_seg dksX2_isServed_0 24 rfl rfl
theorem dksX2_isServed_2 : cX2_isServed.data.toList.drop 48 = dktX2_isServed_2 := dk_seg dksX2_isServed_1 24 rfl rfl
theorem dX2_isServed_0 : decode cX2_isServed 0 = .ok (.iconst 0, 1) := dk_3 (dk_at dksX2_isServed_0 0 rfl rfl)
theorem dX2_isServed_1 : decode cX2_isServed 1 = .ok (.istore_n 2, 1) := dk_61 (dk_at dksX2_isServed_0 1 rfl rfl)
theorem dX2_isServed_2 : decode cX2_isServed 2 = .ok (.iload_n 2, 1) := dk_28 (dk_at dksX2_isServed_0 2 rfl rfl)
theorem dX2_isServed_3 : decode cX2_isServed 3 = .ok (.aload_n 0, 1) := dk_42 (dk_at dksX2_isServed_0 3 rfl rfl)
theorem dX2_isServed_4 : decode cX2_isServed 4 = .ok (.invokevirtual 366, 3) := dk_182 1 110 (dk_at dksX2_isServed_0 4 rfl rfl)
theorem dX2_isServed_7 : decode cX2_isServed 7 = .ok (.if_icmp .ge 49, 3) := dk_162 0 49 (dk_at dksX2_isServed_0 7 rfl rfl)
theorem dX2_isServed_10 : decode cX2_isServed 10 = .ok (.iload_n 2, 1) := dk_28 (dk_at dksX2_isServed_0 10 rfl rfl)
theorem dX2_isServed_11 : decode cX2_isServed 11 = .ok (.iload_n 1, 1) := dk_27 (dk_at dksX2_isServed_0 11 rfl rfl)
theorem dX2_isServed_12 : decode cX2_isServed 12 = .ok (.if_icmp .eq 38, 3) := dk_159 0 38 (dk_at dksX2_isServed_0 12 rfl rfl)
theorem dX2_isServed_15 : decode cX2_isServed 15 = .ok (.aload_n 0, 1) := dk_42 (dk_at dksX2_isServed_0 15 rfl rfl)
theorem dX2_isServed_16 : decode cX2_isServed 16 = .ok (.iload_n 2, 1) := dk_28 (dk_at dksX2_isServed_0 16 rfl rfl)
theorem dX2_isServed_17 : decode cX2_isServed 17 = .ok (.iconst 0, 1) := dk_3 (dk_at dksX2_isServed_0 17 rfl rfl)
theorem dX2_isServed_18 : decode cX2_isServed 18 = .ok (.invokevirtual 369, 3) := dk_182 1 113 (dk_at dksX2_isServed_0 18 rfl rfl)
theorem dX2_isServed_21 : decode cX2_isServed 21 = .ok (.aload_n 0, 1) := dk_42 (dk_at dksX2_isServed_0 21 rfl rfl)
theorem dX2_isServed_22 : decode cX2_isServed 22 = .ok (.iload_n 1, 1) := dk_27 (dk_at dksX2_isServed_0 22 rfl rfl)
theorem dX2_isServed_23 : decode cX2_isServed 23 = .ok (.iconst 0, 1) := dk_3 (dk_at dksX2_isServed_0 23 rfl rfl)
theorem dX2_isServed_24 : decode cX2_isServed 24 = .ok (.invokevirtual 369, 3) := dk_182 1 113 (dk_at dksX2_isServed_1 0 rfl rfl)
theorem dX2_isServed_27 : decode cX2_isServed 27 = .ok (.if_icmp .ne 23, 3) := dk_160 0 23 (dk_at dksX2_isServed_1 3 rfl rfl)
theorem dX2_isServed_30 : decode cX2_isServed 30 = .ok (.aload_n 0, 1) := dk_42 (dk_at dksX2_isServed_1 6 rfl rfl)
theorem dX2_isServed_31 : decode cX2_isServed 31 = .ok (.iload_n 2, 1) := dk_28 (dk_at dksX2_isServed_1 7 rfl rfl)
theorem dX2_isServed_32 : decode cX2_isServed 32 = .ok (.iconst 1, 1) := dk_4 (dk_at dksX2_isServed_1 8 rfl rfl)
theorem dX2_isServed_33 : decode cX2_isServed 33 = .ok (.invokevirtual 369, 3) := dk_182 1 113 (dk_at dksX2_isServed_1 9 rfl rfl)
theorem dX2_isServed_36 : decode cX2_isServed 36 = .ok (.aload_n 0, 1) := dk_42 (dk_at dksX2_isServed_1 12 rfl rfl)
theorem dX2_isServed_37 : decode cX2_isServed 37 = .ok (.iload_n 1, 1) := dk_27 (dk_at dksX2_isServed_1 13 rfl rfl)
theorem dX2_isServed_38 : decode cX2_isServed 38 = .ok (.iconst 1, 1) := dk_4 (dk_at dksX2_isServed_1 14 rfl rfl)
theorem dX2_isServed_39 : decode cX2_isServed 39 = .ok (.invokevirtual 369, 3) := dk_182 1 113 (dk_at dksX2_isServed_1 15 rfl rfl)
theorem dX2_isServed_42 : decode cX2_isServed 42 = .ok (.invokestatic 363, 3) := dk_184 1 107 (dk_at dksX2_isServed_1 18 rfl rfl)
theorem dX2_isServed_45 : decode cX2_isServed 45 = .ok (.ifCond .eq 5, 3) := dk_153 0 5 (dk_at dksX2_isServed_1 21 rfl rfl)
theorem dX2_isServed_48 : decode cX2_isServed 48 = .ok (.iconst 1, 1) := dk_4 (dk_at dksX2_isServed_2 0 rfl rfl)
theorem dX2_isServed_49 : decode cX2_isServed 49 = .ok (.ireturn, 1) := dk_172 (dk_at dksX2_isServed_2 1 rfl rfl)
theorem dX2_isServed_50 : decode cX2_isServed 50 = .ok (.iinc 2 1, 3) := dk_132 2 1 (dk_at dksX2_isServed_2 2 rfl rfl)
theorem dX2_isServed_53 : decode cX2_isServed 53 = .ok (.goto (-51), 3) := dk_167 255 205 (dk_at dksX2_isServed_2 5 rfl rfl)
theorem dX2_isServed_56 : decode cX2_isServed 56 = .ok (.iconst 0, 1) := dk_3 (dk_at dksX2_isServed_2 8 rfl rfl)
theorem dX2_isServed_57 : decode cX2_isServed 57 = .ok (.ireturn, 1) := dk_172 (dk_at dksX2_isServed_2 9 rfl rfl)
abbrev cX2_isHidden : ByteArray := prog_25_method_125_code
def yX2_isHidden : MethodName := ⟨RX2, "isHidden", "(I)Z"⟩
def dkwX2_isHidden_2 : List UInt8 := [182, 1, 104, 160, 0, 5, 4, 172, 132, 2, 1, 167, 255, 201, 3, 172]
abbrev dktX2_isHidden_2 : List UInt8 := dkwX2_isHidden_2 ++ []
def dkwX2_isHidden_1 : List UInt8 := [4, 182, 1, 104, 42, 27, 4, 182, 1, 104, 160, 0, 20, 42, 28, 5, 182, 1, 104, 42, 27, 5]
abbrev dktX2_isHidden_1 : List UInt8 := dkwX2_isHidden_1 ++ dktX2_isHidden_2
def dkwX2_isHidden_0 : List UInt8 := [3, 61, 28, 27, 162, 0, 56, 42, 28, 3, 182, 1, 104, 42, 27, 3, 182, 1, 104, 160, 0, 35, 42, 28]
abbrev dktX2_isHidden_0 : List UInt8 := dkwX2_isHidden_0 ++ dktX2_isHidden_1
theorem dksX2_isHidden_0 : cX2_isHidden.data.toList.drop 0 = dktX2_isHidden_0 := by decide +kernel
theorem dksX2_isHidden_1 : cX2_isHidden.data.toList.drop 24 = dktX2_isHidden_1 := dk_seg dksX2_isHidden_0 24 rfl rfl
theorem dksX2_isHidden_2 : cX2_isHidden.data.toList.drop 46 = dktX2_isHidden_2 := dk_seg dksX2_isHidden_1 22 rfl rfl
theorem dX2_isHidden_0 : decode cX2_isHidden 0 = .ok (.iconst 0, 1) := dk_3 (dk_at dksX2_isHidden_0 0 rfl rfl)
theorem dX2_isHidden_1 : decode cX2_isHidden 1 = .ok (.istore_n 2, 1) := dk_61 (dk_at dksX2_isHidden_0 1 rfl rfl)
theorem dX2_isHidden_2 : decode cX2_isHidden 2 = .ok (.iload_n 2, 1) := dk_28 (dk_at dksX2_isHidden_0 2 rfl rfl)
theorem dX2_isHidden_3 : decode cX2_isHidden 3 = .ok (.iload_n 1, 1) := dk_27 (dk_at dksX2_isHidden_0 3 rfl rfl)
theorem dX2_isHidden_4 : decode cX2_isHidden 4 = .ok (.if_icmp .ge 56, 3) := dk_162 0 56 (dk_at dksX2_isHidden_0 4 rfl rfl)
theorem dX2_isHidden_7 : decode cX2_isHidden 7 = .ok (.aload_n 0, 1) := dk_42 (dk_at dksX2_isHidden_0 7 rfl rfl)
theorem dX2_isHidden_8 : decode cX2_isHidden 8 = .ok (.iload_n 2, 1) := dk_28 (dk_at dksX2_isHidden_0 8 rfl rfl)
theorem dX2_isHidden_9 : decode cX2_isHidden 9 = .ok (.iconst 0, 1) := dk_3 (dk_at dksX2_isHidden_0 9 rfl rfl)
theorem dX2_isHidden_10 : decode cX2_isHidden 10 = .ok (.invokevirtual 360, 3) := dk_182 1 104 (dk_at dksX2_isHidden_0 10 rfl rfl)
theorem dX2_isHidden_13 : decode cX2_isHidden 13 = .ok (.aload_n 0, 1) := dk_42 (dk_at dksX2_isHidden_0 13 rfl rfl)
theorem dX2_isHidden_14 : decode cX2_isHidden 14 = .ok (.iload_n 1, 1) := dk_27 (dk_at dksX2_isHidden_0 14 rfl rfl)
theorem dX2_isHidden_15 : decode cX2_isHidden 15 = .ok (.iconst 0, 1) := dk_3 (dk_at dksX2_isHidden_0 15 rfl rfl)
theorem dX2_isHidden_16 : decode cX2_isHidden 16 = .ok (.invokevirtual 360, 3) := dk_182 1 104 (dk_at dksX2_isHidden_0 16 rfl rfl)
theorem dX2_isHidden_19 : decode cX2_isHidden 19 = .ok (.if_icmp .ne 35, 3) := dk_160 0 35 (dk_at dksX2_isHidden_0 19 rfl rfl)
theorem dX2_isHidden_22 : decode cX2_isHidden 22 = .ok (.aload_n 0, 1) := dk_42 (dk_at dksX2_isHidden_0 22 rfl rfl)
theorem dX2_isHidden_23 : decode cX2_isHidden 23 = .ok (.iload_n 2, 1) := dk_28 (dk_at dksX2_isHidden_0 23 rfl rfl)
theorem dX2_isHidden_24 : decode cX2_isHidden 24 = .ok (.iconst 1, 1) := dk_4 (dk_at dksX2_isHidden_1 0 rfl rfl)
theorem dX2_isHidden_25 : decode cX2_isHidden 25 = .ok (.invokevirtual 360, 3) := dk_182 1 104 (dk_at dksX2_isHidden_1 1 rfl rfl)
theorem dX2_isHidden_28 : decode cX2_isHidden 28 = .ok (.aload_n 0, 1) := dk_42 (dk_at dksX2_isHidden_1 4 rfl rfl)
theorem dX2_isHidden_29 : decode cX2_isHidden 29 = .ok (.iload_n 1, 1) := dk_27 (dk_at dksX2_isHidden_1 5 rfl rfl)
theorem dX2_isHidden_30 : decode cX2_isHidden 30 = .ok (.iconst 1, 1) := dk_4 (dk_at dksX2_isHidden_1 6 rfl rfl)
theorem dX2_isHidden_31 : decode cX2_isHidden 31 = .ok (.invokevirtual 360, 3) := dk_182 1 104 (dk_at dksX2_isHidden_1 7 rfl rfl)
theorem dX2_isHidden_34 : decode cX2_isHidden 34 = .ok (.if_icmp .ne 20, 3) := dk_160 0 20 (dk_at dksX2_isHidden_1 10 rfl rfl)
theorem dX2_isHidden_37 : decode cX2_isHidden 37 = .ok (.aload_n 0, 1) := dk_42 (dk_at dksX2_isHidden_1 13 rfl rfl)
theorem dX2_isHidden_38 : decode cX2_isHidden 38 = .ok (.iload_n 2, 1) := dk_28 (dk_at dksX2_isHidden_1 14 rfl rfl)
theorem dX2_isHidden_39 : decode cX2_isHidden 39 = .ok (.iconst 2, 1) := dk_5 (dk_at dksX2_isHidden_1 15 rfl rfl)
theorem dX2_isHidden_40 : decode cX2_isHidden 40 = .ok (.invokevirtual 360, 3) := dk_182 1 104 (dk_at dksX2_isHidden_1 16 rfl rfl)
theorem dX2_isHidden_43 : decode cX2_isHidden 43 = .ok (.aload_n 0, 1) := dk_42 (dk_at dksX2_isHidden_1 19 rfl rfl)
theorem dX2_isHidden_44 : decode cX2_isHidden 44 = .ok (.iload_n 1, 1) := dk_27 (dk_at dksX2_isHidden_1 20 rfl rfl)
theorem dX2_isHidden_45 : decode cX2_isHidden 45 = .ok (.iconst 2, 1) := dk_5 (dk_at dksX2_isHidden_1 21 rfl rfl)
theorem dX2_isHidden_46 : decode cX2_isHidden 46 = .ok (.invokevirtual 360, 3) := dk_182 1 104 (dk_at dksX2_isHidden_2 0 rfl rfl)
theorem dX2_isHidden_49 : decode cX2_isHidden 49 = .ok (.if_icmp .ne 5, 3) := dk_160 0 5 (dk_at dksX2_isHidden_2 3 rfl rfl)
theorem dX2_isHidden_52 : decode cX2_isHidden 52 = .ok (.iconst 1, 1) := dk_4 (dk_at dksX2_isHidden_2 6 rfl rfl)
theorem dX2_isHidden_53 : decode cX2_isHidden 53 = .ok (.ireturn, 1) := dk_172 (dk_at dksX2_isHidden_2 7 rfl rfl)
theorem dX2_isHidden_54 : decode cX2_isHidden 54 = .ok (.iinc 2 1, 3) := dk_132 2 1 (dk_at dksX2_isHidden_2 8 rfl rfl)
theorem dX2_isHidden_57 : decode cX2_isHidden 57 = .ok (.goto (-55), 3) := dk_167 255 201 (dk_at dksX2_isHidden_2 11 rfl rfl)
theorem dX2_isHidden_60 : decode cX2_isHidden 60 = .ok (.iconst 0, 1) := dk_3 (dk_at dksX2_isHidden_2 14 rfl rfl)
theorem dX2_isHidden_61 : decode cX2_isHidden 61 = .ok (.ireturn, 1) := dk_172 (dk_at dksX2_isHidden_2 15 rfl rfl)
abbrev cX2_count : ByteArray := prog_25_method_128_code
def yX2_count : MethodName := ⟨RX2, "count", "(I)I"⟩
def dkwX2_count_1 : List UInt8 := [16, 254, 172]
abbrev dktX2_count_1 : List UInt8 := dkwX2_count_1 ++ []
def dkwX2_count_0 : List UInt8 := [42, 3, 181, 0, 169, 27, 3, 5, 184, 0, 181, 153, 0, 12, 42, 180, 0, 23, 27, 46, 167, 0, 5]
abbrev dktX2_count_0 : List UInt8 := dkwX2_count_0 ++ dktX2_count_1
theorem dksX2_count_0 : cX2_count.data.toList.drop 0 = dktX2_count_0 := by decide +kernel
theorem dksX2_count_1 : cX2_count.data.toList.drop 23 = dktX2_count_1 := dk_seg dksX2_count_0 23 rfl rfl
theorem dX2_count_0 : decode cX2_count 0 = .ok (.aload_n 0, 1) := dk_42 (dk_at dksX2_count_0 0 rfl rfl)
theorem dX2_count_1 : decode cX2_count 1 = .ok (.iconst 0, 1) := dk_3 (dk_at dksX2_count_0 1 rfl rfl)
theorem dX2_count_2 : decode cX2_count 2 = .ok (.putfield 169, 3) := dk_181 0 169 (dk_at dksX2_count_0 2 rfl rfl)
theorem dX2_count_5 : decode cX2_count 5 = .ok (.iload_n 1, 1) := dk_27 (dk_at dksX2_count_0 5 rfl rfl)
theorem dX2_count_6 : decode cX2_count 6 = .ok (.iconst 0, 1) := dk_3 (dk_at dksX2_count_0 6 rfl rfl)
theorem dX2_count_7 : decode cX2_count 7 = .ok (.iconst 2, 1) := dk_5 (dk_at dksX2_count_0 7 rfl rfl)
theorem dX2_count_8 : decode cX2_count 8 = .ok (.invokestatic 181, 3) := dk_184 0 181 (dk_at dksX2_count_0 8 rfl rfl)
theorem dX2_count_11 : decode cX2_count 11 = .ok (.ifCond .eq 12, 3) := dk_153 0 12 (dk_at dksX2_count_0 11 rfl rfl)
theorem dX2_count_14 : decode cX2_count 14 = .ok (.aload_n 0, 1) := dk_42 (dk_at dksX2_count_0 14 rfl rfl)
theorem dX2_count_15 : decode cX2_count 15 = .ok (.getfield 23, 3) := dk_180 0 23 (dk_at dksX2_count_0 15 rfl rfl)
theorem dX2_count_18 : decode cX2_count 18 = .ok (.iload_n 1, 1) := dk_27 (dk_at dksX2_count_0 18 rfl rfl)
theorem dX2_count_19 : decode cX2_count 19 = .ok (.iaload, 1) := dk_46 (dk_at dksX2_count_0 19 rfl rfl)
theorem dX2_count_20 : decode cX2_count 20 = .ok (.goto 5, 3) := dk_167 0 5 (dk_at dksX2_count_0 20 rfl rfl)
theorem dX2_count_23 : decode cX2_count 23 = .ok (.bipush (-2), 2) := dk_16 254 (dk_at dksX2_count_1 0 rfl rfl)
theorem dX2_count_25 : decode cX2_count 25 = .ok (.ireturn, 1) := dk_172 (dk_at dksX2_count_1 2 rfl rfl)
abbrev cX2_image : ByteArray := prog_25_method_129_code
def yX2_image : MethodName := ⟨RX2, "image", "(I)Z"⟩
def dkwX2_image_1 : List UInt8 := [42, 180, 0, 165, 27, 4, 84, 4, 172]
abbrev dktX2_image_1 : List UInt8 := dkwX2_image_1 ++ []
def dkwX2_image_0 : List UInt8 := [42, 3, 181, 0, 169, 27, 3, 5, 184, 0, 181, 154, 0, 5, 3, 172, 42, 3, 27, 4, 96, 182, 2, 126]
abbrev dktX2_image_0 : List UInt8 := dkwX2_image_0 ++ dktX2_image_1
theorem dksX2_image_0 : cX2_image.data.toList.drop 0 = dktX2_image_0 := by decide +kernel
theorem dksX2_image_1 : cX2_image.data.toList.drop 24 = dktX2_image_1 := dk_seg dksX2_image_0 24 rfl rfl
theorem dX2_image_0 : decode cX2_image 0 = .ok (.aload_n 0, 1) := dk_42 (dk_at dksX2_image_0 0 rfl rfl)
theorem dX2_image_1 : decode cX2_image 1 = .ok (.iconst 0, 1) := dk_3 (dk_at dksX2_image_0 1 rfl rfl)
theorem dX2_image_2 : decode cX2_image 2 = .ok (.putfield 169, 3) := dk_181 0 169 (dk_at dksX2_image_0 2 rfl rfl)
theorem dX2_image_5 : decode cX2_image 5 = .ok (.iload_n 1, 1) := dk_27 (dk_at dksX2_image_0 5 rfl rfl)
theorem dX2_image_6 : decode cX2_image 6 = .ok (.iconst 0, 1) := dk_3 (dk_at dksX2_image_0 6 rfl rfl)
theorem dX2_image_7 : decode cX2_image 7 = .ok (.iconst 2, 1) := dk_5 (dk_at dksX2_image_0 7 rfl rfl)
theorem dX2_image_8 : decode cX2_image 8 = .ok (.invokestatic 181, 3) := dk_184 0 181 (dk_at dksX2_image_0 8 rfl rfl)
theorem dX2_image_11 : decode cX2_image 11 = .ok (.ifCond .ne 5, 3) := dk_154 0 5 (dk_at dksX2_image_0 11 rfl rfl)
theorem dX2_image_14 : decode cX2_image 14 = .ok (.iconst 0, 1) := dk_3 (dk_at dksX2_image_0 14 rfl rfl)
theorem dX2_image_15 : decode cX2_image 15 = .ok (.ireturn, 1) := dk_172 (dk_at dksX2_image_0 15 rfl rfl)
theorem dX2_image_16 : decode cX2_image 16 = .ok (.aload_n 0, 1) := dk_42 (dk_at dksX2_image_0 16 rfl rfl)
theorem dX2_image_17 : decode cX2_image 17 = .ok (.iconst 0, 1) := dk_3 (dk_at dksX2_image_0 17 rfl rfl)
theorem dX2_image_18 : decode cX2_image 18 = .ok (.iload_n 1, 1) := dk_27 (dk_at dksX2_image_0 18 rfl rfl)
theorem dX2_image_19 : decode cX2_image 19 = .ok (.iconst 1, 1) := dk_4 (dk_at dksX2_image_0 19 rfl rfl)
theorem dX2_image_20 : decode cX2_image 20 = .ok (.iadd, 1) := dk_96 (dk_at dksX2_image_0 20 rfl rfl)
theorem dX2_image_21 : decode cX2_image 21 = .ok (.invokevirtual 638, 3) := dk_182 2 126 (dk_at dksX2_image_0 21 rfl rfl)
theorem dX2_image_24 : decode cX2_image 24 = .ok (.aload_n 0, 1) := dk_42 (dk_at dksX2_image_1 0 rfl rfl)
theorem dX2_image_25 : decode cX2_image 25 = .ok (.getfield 165, 3) := dk_180 0 165 (dk_at dksX2_image_1 1 rfl rfl)
theorem dX2_image_28 : decode cX2_image 28 = .ok (.iload_n 1, 1) := dk_27 (dk_at dksX2_image_1 4 rfl rfl)
theorem dX2_image_29 : decode cX2_image 29 = .ok (.iconst 1, 1) := dk_4 (dk_at dksX2_image_1 5 rfl rfl)
theorem dX2_image_30 : decode cX2_image 30 = .ok (.bastore, 1) := dk_84 (dk_at dksX2_image_1 6 rfl rfl)
theorem dX2_image_31 : decode cX2_image 31 = .ok (.iconst 1, 1) := dk_4 (dk_at dksX2_image_1 7 rfl rfl)
theorem dX2_image_32 : decode cX2_image 32 = .ok (.ireturn, 1) := dk_172 (dk_at dksX2_image_1 8 rfl rfl)
abbrev cX2_copyAll : ByteArray := prog_25_method_9_code
def yX2_copyAll : MethodName := ⟨RX2, "copyAll", "(II)V"⟩
def dkwX2_copyAll_4 : List UInt8 := [180, 0, 29, 17, 0, 242, 27, 28, 184, 0, 177, 42, 180, 0, 32, 16, 34, 27, 28, 184, 0, 177, 177]
abbrev dktX2_copyAll_4 : List UInt8 := dkwX2_copyAll_4 ++ []
def dkwX2_copyAll_3 : List UInt8 := [180, 0, 23, 6, 27, 28, 184, 0, 177, 42, 180, 0, 26, 17, 0, 244, 27, 28, 184, 0, 177, 42]
abbrev dktX2_copyAll_3 : List UInt8 := dkwX2_copyAll_3 ++ dktX2_copyAll_4
def dkwX2_copyAll_2 : List UInt8 := [184, 0, 177, 42, 180, 0, 17, 4, 27, 28, 184, 0, 177, 42, 180, 0, 20, 4, 27, 28, 184, 0, 177, 42]
abbrev dktX2_copyAll_2 : List UInt8 := dkwX2_copyAll_2 ++ dktX2_copyAll_3
def dkwX2_copyAll_1 : List UInt8 := [17, 2, 88, 27, 104, 29, 96, 51, 84, 132, 3, 1, 167, 255, 222, 42, 180, 0, 13, 4, 27, 28]
abbrev dktX2_copyAll_1 : List UInt8 := dkwX2_copyAll_1 ++ dktX2_copyAll_2
def dkwX2_copyAll_0 : List UInt8 := [3, 62, 29, 17, 2, 88, 162, 0, 33, 42, 180, 0, 7, 17, 2, 88, 28, 104, 29, 96, 42, 180, 0, 7]
abbrev dktX2_copyAll_0 : List UInt8 := dkwX2_copyAll_0 ++ dktX2_copyAll_1
theorem dksX2_copyAll_0 : cX2_copyAll.data.toList.drop 0 = dktX2_copyAll_0 := by decide +kernel
theorem dksX2_copyAll_1 : cX2_copyAll.data.toList.drop 24 = dktX2_copyAll_1 := dk_seg dksX2_copyAll_0 24 rfl rfl
theorem dksX2_copyAll_2 : cX2_copyAll.data.toList.drop 46 = dktX2_copyAll_2 := dk_seg dksX2_copyAll_1 22 rfl rfl
theorem dksX2_copyAll_3 : cX2_copyAll.data.toList.drop 70 = dktX2_copyAll_3 := dk_seg dksX2_copyAll_2 24 rfl rfl
theorem dksX2_copyAll_4 : cX2_copyAll.data.toList.drop 92 = dktX2_copyAll_4 := dk_seg dksX2_copyAll_3 22 rfl rfl
theorem dX2_copyAll_0 : decode cX2_copyAll 0 = .ok (.iconst 0, 1) := dk_3 (dk_at dksX2_copyAll_0 0 rfl rfl)
theorem dX2_copyAll_1 : decode cX2_copyAll 1 = .ok (.istore_n 3, 1) := dk_62 (dk_at dksX2_copyAll_0 1 rfl rfl)
theorem dX2_copyAll_2 : decode cX2_copyAll 2 = .ok (.iload_n 3, 1) := dk_29 (dk_at dksX2_copyAll_0 2 rfl rfl)
theorem dX2_copyAll_3 : decode cX2_copyAll 3 = .ok (.sipush 600, 3) := dk_17 2 88 (dk_at dksX2_copyAll_0 3 rfl rfl)
theorem dX2_copyAll_6 : decode cX2_copyAll 6 = .ok (.if_icmp .ge 33, 3) := dk_162 0 33 (dk_at dksX2_copyAll_0 6 rfl rfl)
theorem dX2_copyAll_9 : decode cX2_copyAll 9 = .ok (.aload_n 0, 1) := dk_42 (dk_at dksX2_copyAll_0 9 rfl rfl)
theorem dX2_copyAll_10 : decode cX2_copyAll 10 = .ok (.getfield 7, 3) := dk_180 0 7 (dk_at dksX2_copyAll_0 10 rfl rfl)
theorem dX2_copyAll_13 : decode cX2_copyAll 13 = .ok (.sipush 600, 3) := dk_17 2 88 (dk_at dksX2_copyAll_0 13 rfl rfl)
theorem dX2_copyAll_16 : decode cX2_copyAll 16 = .ok (.iload_n 2, 1) := dk_28 (dk_at dksX2_copyAll_0 16 rfl rfl)
theorem dX2_copyAll_17 : decode cX2_copyAll 17 = .ok (.imul, 1) := dk_104 (dk_at dksX2_copyAll_0 17 rfl rfl)
theorem dX2_copyAll_18 : decode cX2_copyAll 18 = .ok (.iload_n 3, 1) := dk_29 (dk_at dksX2_copyAll_0 18 rfl rfl)
theorem dX2_copyAll_19 : decode cX2_copyAll 19 = .ok (.iadd, 1) := dk_96 (dk_at dksX2_copyAll_0 19 rfl rfl)
theorem dX2_copyAll_20 : decode cX2_copyAll 20 = .ok (.aload_n 0, 1) := dk_42 (dk_at dksX2_copyAll_0 20 rfl rfl)
theorem dX2_copyAll_21 : decode cX2_copyAll 21 = .ok (.getfield 7, 3) := dk_180 0 7 (dk_at dksX2_copyAll_0 21 rfl rfl)
theorem dX2_copyAll_24 : decode cX2_copyAll 24 = .ok (.sipush 600, 3) := dk_17 2 88 (dk_at dksX2_copyAll_1 0 rfl rfl)
theorem dX2_copyAll_27 : decode cX2_copyAll 27 = .ok (.iload_n 1, 1) := dk_27 (dk_at dksX2_copyAll_1 3 rfl rfl)
theorem dX2_copyAll_28 : decode cX2_copyAll 28 = .ok (.imul, 1) := dk_104 (dk_at dksX2_copyAll_1 4 rfl rfl)
theorem dX2_copyAll_29 : decode cX2_copyAll 29 = .ok (.iload_n 3, 1) := dk_29 (dk_at dksX2_copyAll_1 5 rfl rfl)
theorem dX2_copyAll_30 : decode cX2_copyAll 30 = .ok (.iadd, 1) := dk_96 (dk_at dksX2_copyAll_1 6 rfl rfl)
theorem dX2_copyAll_31 : decode cX2_copyAll 31 = .ok (.baload, 1) := dk_51 (dk_at dksX2_copyAll_1 7 rfl rfl)
theorem dX2_copyAll_32 : decode cX2_copyAll 32 = .ok (.bastore, 1) := dk_84 (dk_at dksX2_copyAll_1 8 rfl rfl)
theorem dX2_copyAll_33 : decode cX2_copyAll 33 = .ok (.iinc 3 1, 3) := dk_132 3 1 (dk_at dksX2_copyAll_1 9 rfl rfl)
theorem dX2_copyAll_36 : decode cX2_copyAll 36 = .ok (.goto (-34), 3) := dk_167 255 222 (dk_at dksX2_copyAll_1 12 rfl rfl)
theorem dX2_copyAll_39 : decode cX2_copyAll 39 = .ok (.aload_n 0, 1) := dk_42 (dk_at dksX2_copyAll_1 15 rfl rfl)
theorem dX2_copyAll_40 : decode cX2_copyAll 40 = .ok (.getfield 13, 3) := dk_180 0 13 (dk_at dksX2_copyAll_1 16 rfl rfl)
theorem dX2_copyAll_43 : decode cX2_copyAll 43 = .ok (.iconst 1, 1) := dk_4 (dk_at dksX2_copyAll_1 19 rfl rfl)
theorem dX2_copyAll_44 : decode cX2_copyAll 44 = .ok (.iload_n 1, 1) := dk_27 (dk_at dksX2_copyAll_1 20 rfl rfl)
theorem dX2_copyAll_45 : decode cX2_copyAll 45 = .ok (.iload_n 2, 1) := dk_28 (dk_at dksX2_copyAll_1 21 rfl rfl)
theorem dX2_copyAll_46 : decode cX2_copyAll 46 = .ok (.invokestatic 177, 3) := dk_184 0 177 (dk_at dksX2_copyAll_2 0 rfl rfl)
theorem dX2_copyAll_49 : decode cX2_copyAll 49 = .ok (.aload_n 0, 1) := dk_42 (dk_at dksX2_copyAll_2 3 rfl rfl)
theorem dX2_copyAll_50 : decode cX2_copyAll 50 = .ok (.getfield 17, 3) := dk_180 0 17 (dk_at dksX2_copyAll_2 4 rfl rfl)
theorem dX2_copyAll_53 : decode cX2_copyAll 53 = .ok (.iconst 1, 1) := dk_4 (dk_at dksX2_copyAll_2 7 rfl rfl)
theorem dX2_copyAll_54 : decode cX2_copyAll 54 = .ok (.iload_n 1, 1) := dk_27 (dk_at dksX2_copyAll_2 8 rfl rfl)
theorem dX2_copyAll_55 : decode cX2_copyAll 55 = .ok (.iload_n 2, 1) := dk_28 (dk_at dksX2_copyAll_2 9 rfl rfl)
theorem dX2_copyAll_56 : decode cX2_copyAll 56 = .ok (.invokestatic 177, 3) := dk_184 0 177 (dk_at dksX2_copyAll_2 10 rfl rfl)
theorem dX2_copyAll_59 : decode cX2_copyAll 59 = .ok (.aload_n 0, 1) := dk_42 (dk_at dksX2_copyAll_2 13 rfl rfl)
theorem dX2_copyAll_60 : decode cX2_copyAll 60 = .ok (.getfield 20, 3) := dk_180 0 20 (dk_at dksX2_copyAll_2 14 rfl rfl)
theorem dX2_copyAll_63 : decode cX2_copyAll 63 = .ok (.iconst 1, 1) := dk_4 (dk_at dksX2_copyAll_2 17 rfl rfl)
theorem dX2_copyAll_64 : decode cX2_copyAll 64 = .ok (.iload_n 1, 1) := dk_27 (dk_at dksX2_copyAll_2 18 rfl rfl)
theorem dX2_copyAll_65 : decode cX2_copyAll 65 = .ok (.iload_n 2, 1) := dk_28 (dk_at dksX2_copyAll_2 19 rfl rfl)
theorem dX2_copyAll_66 : decode cX2_copyAll 66 = .ok (.invokestatic 177, 3) := dk_184 0 177 (dk_at dksX2_copyAll_2 20 rfl rfl)
theorem dX2_copyAll_69 : decode cX2_copyAll 69 = .ok (.aload_n 0, 1) := dk_42 (dk_at dksX2_copyAll_2 23 rfl rfl)
theorem dX2_copyAll_70 : decode cX2_copyAll 70 = .ok (.getfield 23, 3) := dk_180 0 23 (dk_at dksX2_copyAll_3 0 rfl rfl)
theorem dX2_copyAll_73 : decode cX2_copyAll 73 = .ok (.iconst 3, 1) := dk_6 (dk_at dksX2_copyAll_3 3 rfl rfl)
theorem dX2_copyAll_74 : decode cX2_copyAll 74 = .ok (.iload_n 1, 1) := dk_27 (dk_at dksX2_copyAll_3 4 rfl rfl)
theorem dX2_copyAll_75 : decode cX2_copyAll 75 = .ok (.iload_n 2, 1) := dk_28 (dk_at dksX2_copyAll_3 5 rfl rfl)
theorem dX2_copyAll_76 : decode cX2_copyAll 76 = .ok (.invokestatic 177, 3) := dk_184 0 177 (dk_at dksX2_copyAll_3 6 rfl rfl)
theorem dX2_copyAll_79 : decode cX2_copyAll 79 = .ok (.aload_n 0, 1) := dk_42 (dk_at dksX2_copyAll_3 9 rfl rfl)
theorem dX2_copyAll_80 : decode cX2_copyAll 80 = .ok (.getfield 26, 3) := dk_180 0 26 (dk_at dksX2_copyAll_3 10 rfl rfl)
theorem dX2_copyAll_83 : decode cX2_copyAll 83 = .ok (.sipush 244, 3) := dk_17 0 244 (dk_at dksX2_copyAll_3 13 rfl rfl)
theorem dX2_copyAll_86 : decode cX2_copyAll 86 = .ok (.iload_n 1, 1) := dk_27 (dk_at dksX2_copyAll_3 16 rfl rfl)
theorem dX2_copyAll_87 : decode cX2_copyAll 87 = .ok (.iload_n 2, 1) := dk_28 (dk_at dksX2_copyAll_3 17 rfl rfl)
theorem dX2_copyAll_88 : decode cX2_copyAll 88 = .ok (.invokestatic 177, 3) := dk_184 0 177 (dk_at dksX2_copyAll_3 18 rfl rfl)
theorem dX2_copyAll_91 : decode cX2_copyAll 91 = .ok (.aload_n 0, 1) := dk_42 (dk_at dksX2_copyAll_3 21 rfl rfl)
theorem dX2_copyAll_92 : decode cX2_copyAll 92 = .ok (.getfield 29, 3) := dk_180 0 29 (dk_at dksX2_copyAll_4 0 rfl rfl)
theorem dX2_copyAll_95 : decode cX2_copyAll 95 = .ok (.sipush 242, 3) := dk_17 0 242 (dk_at dksX2_copyAll_4 3 rfl rfl)
theorem dX2_copyAll_98 : decode cX2_copyAll 98 = .ok (.iload_n 1, 1) := dk_27 (dk_at dksX2_copyAll_4 6 rfl rfl)
theorem dX2_copyAll_99 : decode cX2_copyAll 99 = .ok (.iload_n 2, 1) := dk_28 (dk_at dksX2_copyAll_4 7 rfl rfl)
theorem dX2_copyAll_100 : decode cX2_copyAll 100 = .ok (.invokestatic 177, 3) := dk_184 0 177 (dk_at dksX2_copyAll_4 8 rfl rfl)
theorem dX2_copyAll_103 : decode cX2_copyAll 103 = .ok (.aload_n 0, 1) := dk_42 (dk_at dksX2_copyAll_4 11 rfl rfl)
theorem dX2_copyAll_104 : decode cX2_copyAll 104 = .ok (.getfield 32, 3) := dk_180 0 32 (dk_at dksX2_copyAll_4 12 rfl rfl)
theorem dX2_copyAll_107 : decode cX2_copyAll 107 = .ok (.bipush 34, 2) := dk_16 34 (dk_at dksX2_copyAll_4 15 rfl rfl)
theorem dX2_copyAll_109 : decode cX2_copyAll 109 = .ok (.iload_n 1, 1) := dk_27 (dk_at dksX2_copyAll_4 17 rfl rfl)
theorem dX2_copyAll_110 : decode cX2_copyAll 110 = .ok (.iload_n 2, 1) := dk_28 (dk_at dksX2_copyAll_4 18 rfl rfl)
theorem dX2_copyAll_111 : decode cX2_copyAll 111 = .ok (.invokestatic 177, 3) := dk_184 0 177 (dk_at dksX2_copyAll_4 19 rfl rfl)
theorem dX2_copyAll_114 : decode cX2_copyAll 114 = .ok (.return_, 1) := dk_177 (dk_at dksX2_copyAll_4 22 rfl rfl)
abbrev cX2_copyRow : ByteArray := prog_25_method_8_code
def yX2_copyRow : MethodName := ⟨RX2, "copyRow", "([IIII)V"⟩
def dkwX2_copyRow_1 : List UInt8 := [79, 132, 4, 1, 167, 255, 231, 177]
abbrev dktX2_copyRow_1 : List UInt8 := dkwX2_copyRow_1 ++ []
def dkwX2_copyRow_0 : List UInt8 := [3, 54, 4, 21, 4, 27, 162, 0, 25, 42, 27, 29, 104, 21, 4, 96, 42, 27, 28, 104, 21, 4, 96, 46]
abbrev dktX2_copyRow_0 : List UInt8 := dkwX2_copyRow_0 ++ dktX2_copyRow_1
theorem dksX2_copyRow_0 : cX2_copyRow.data.toList.drop 0 = dktX2_copyRow_0 := by decide +kernel
theorem dksX2_copyRow_1 : cX2_copyRow.data.toList.drop 24 = dktX2_copyRow_1 := dk_seg dksX2_copyRow_0 24 rfl rfl
theorem dX2_copyRow_0 : decode cX2_copyRow 0 = .ok (.iconst 0, 1) := dk_3 (dk_at dksX2_copyRow_0 0 rfl rfl)
theorem dX2_copyRow_1 : decode cX2_copyRow 1 = .ok (.istore 4, 2) := dk_54 4 (dk_at dksX2_copyRow_0 1 rfl rfl)
theorem dX2_copyRow_3 : decode cX2_copyRow 3 = .ok (.iload 4, 2) := dk_21 4 (dk_at dksX2_copyRow_0 3 rfl rfl)
theorem dX2_copyRow_5 : decode cX2_copyRow 5 = .ok (.iload_n 1, 1) := dk_27 (dk_at dksX2_copyRow_0 5 rfl rfl)
theorem dX2_copyRow_6 : decode cX2_copyRow 6 = .ok (.if_icmp .ge 25, 3) := dk_162 0 25 (dk_at dksX2_copyRow_0 6 rfl rfl)
theorem dX2_copyRow_9 : decode cX2_copyRow 9 = .ok (.aload_n 0, 1) := dk_42 (dk_at dksX2_copyRow_0 9 rfl rfl)
theorem dX2_copyRow_10 : decode cX2_copyRow 10 = .ok (.iload_n 1, 1) := dk_27 (dk_at dksX2_copyRow_0 10 rfl rfl)
theorem dX2_copyRow_11 : decode cX2_copyRow 11 = .ok (.iload_n 3, 1) := dk_29 (dk_at dksX2_copyRow_0 11 rfl rfl)
theorem dX2_copyRow_12 : decode cX2_copyRow 12 = .ok (.imul, 1) := dk_104 (dk_at dksX2_copyRow_0 12 rfl rfl)
theorem dX2_copyRow_13 : decode cX2_copyRow 13 = .ok (.iload 4, 2) := dk_21 4 (dk_at dksX2_copyRow_0 13 rfl rfl)
theorem dX2_copyRow_15 : decode cX2_copyRow 15 = .ok (.iadd, 1) := dk_96 (dk_at dksX2_copyRow_0 15 rfl rfl)
theorem dX2_copyRow_16 : decode cX2_copyRow 16 = .ok (.aload_n 0, 1) := dk_42 (dk_at dksX2_copyRow_0 16 rfl rfl)
theorem dX2_copyRow_17 : decode cX2_copyRow 17 = .ok (.iload_n 1, 1) := dk_27 (dk_at dksX2_copyRow_0 17 rfl rfl)
theorem dX2_copyRow_18 : decode cX2_copyRow 18 = .ok (.iload_n 2, 1) := dk_28 (dk_at dksX2_copyRow_0 18 rfl rfl)
theorem dX2_copyRow_19 : decode cX2_copyRow 19 = .ok (.imul, 1) := dk_104 (dk_at dksX2_copyRow_0 19 rfl rfl)
theorem dX2_copyRow_20 : decode cX2_copyRow 20 = .ok (.iload 4, 2) := dk_21 4 (dk_at dksX2_copyRow_0 20 rfl rfl)
theorem dX2_copyRow_22 : decode cX2_copyRow 22 = .ok (.iadd, 1) := dk_96 (dk_at dksX2_copyRow_0 22 rfl rfl)
theorem dX2_copyRow_23 : decode cX2_copyRow 23 = .ok (.iaload, 1) := dk_46 (dk_at dksX2_copyRow_0 23 rfl rfl)
theorem dX2_copyRow_24 : decode cX2_copyRow 24 = .ok (.iastore, 1) := dk_79 (dk_at dksX2_copyRow_1 0 rfl rfl)
theorem dX2_copyRow_25 : decode cX2_copyRow 25 = .ok (.iinc 4 1, 3) := dk_132 4 1 (dk_at dksX2_copyRow_1 1 rfl rfl)
theorem dX2_copyRow_28 : decode cX2_copyRow 28 = .ok (.goto (-25), 3) := dk_167 255 231 (dk_at dksX2_copyRow_1 4 rfl rfl)
theorem dX2_copyRow_31 : decode cX2_copyRow 31 = .ok (.return_, 1) := dk_177 (dk_at dksX2_copyRow_1 7 rfl rfl)
abbrev cX2_again : ByteArray := prog_25_method_130_code
def yX2_again : MethodName := ⟨RX2, "again", "(I)Z"⟩
def dkwX2_again_1 : List UInt8 := [172, 42, 27, 4, 96, 3, 182, 2, 126, 4, 172]
abbrev dktX2_again_1 : List UInt8 := dkwX2_again_1 ++ []
def dkwX2_again_0 : List UInt8 := [42, 3, 181, 0, 169, 27, 3, 5, 184, 0, 181, 153, 0, 12, 42, 180, 0, 165, 27, 51, 154, 0, 5, 3]
abbrev dktX2_again_0 : List UInt8 := dkwX2_again_0 ++ dktX2_again_1
theorem dksX2_again_0 : cX2_again.data.toList.drop 0 = dktX2_again_0 := by decide +kernel
theorem dksX2_again_1 : cX2_again.data.toList.drop 24 = dktX2_again_1 := dk_seg dksX2_again_0 24 rfl rfl
theorem dX2_again_0 : decode cX2_again 0 = .ok (.aload_n 0, 1) := dk_42 (dk_at dksX2_again_0 0 rfl rfl)
theorem dX2_again_1 : decode cX2_again 1 = .ok (.iconst 0, 1) := dk_3 (dk_at dksX2_again_0 1 rfl rfl)
theorem dX2_again_2 : decode cX2_again 2 = .ok (.putfield 169, 3) := dk_181 0 169 (dk_at dksX2_again_0 2 rfl rfl)
theorem dX2_again_5 : decode cX2_again 5 = .ok (.iload_n 1, 1) := dk_27 (dk_at dksX2_again_0 5 rfl rfl)
theorem dX2_again_6 : decode cX2_again 6 = .ok (.iconst 0, 1) := dk_3 (dk_at dksX2_again_0 6 rfl rfl)
theorem dX2_again_7 : decode cX2_again 7 = .ok (.iconst 2, 1) := dk_5 (dk_at dksX2_again_0 7 rfl rfl)
theorem dX2_again_8 : decode cX2_again 8 = .ok (.invokestatic 181, 3) := dk_184 0 181 (dk_at dksX2_again_0 8 rfl rfl)
theorem dX2_again_11 : decode cX2_again 11 = .ok (.ifCond .eq 12, 3) := dk_153 0 12 (dk_at dksX2_again_0 11 rfl rfl)
theorem dX2_again_14 : decode cX2_again 14 = .ok (.aload_n 0, 1) := dk_42 (dk_at dksX2_again_0 14 rfl rfl)
theorem dX2_again_15 : decode cX2_again 15 = .ok (.getfield 165, 3) := dk_180 0 165 (dk_at dksX2_again_0 15 rfl rfl)
theorem dX2_again_18 : decode cX2_again 18 = .ok (.iload_n 1, 1) := dk_27 (dk_at dksX2_again_0 18 rfl rfl)
theorem dX2_again_19 : decode cX2_again 19 = .ok (.baload, 1) := dk_51 (dk_at dksX2_again_0 19 rfl rfl)
theorem dX2_again_20 : decode cX2_again 20 = .ok (.ifCond .ne 5, 3) := dk_154 0 5 (dk_at dksX2_again_0 20 rfl rfl)
theorem dX2_again_23 : decode cX2_again 23 = .ok (.iconst 0, 1) := dk_3 (dk_at dksX2_again_0 23 rfl rfl)
theorem dX2_again_24 : decode cX2_again 24 = .ok (.ireturn, 1) := dk_172 (dk_at dksX2_again_1 0 rfl rfl)
theorem dX2_again_25 : decode cX2_again 25 = .ok (.aload_n 0, 1) := dk_42 (dk_at dksX2_again_1 1 rfl rfl)
theorem dX2_again_26 : decode cX2_again 26 = .ok (.iload_n 1, 1) := dk_27 (dk_at dksX2_again_1 2 rfl rfl)
theorem dX2_again_27 : decode cX2_again 27 = .ok (.iconst 1, 1) := dk_4 (dk_at dksX2_again_1 3 rfl rfl)
theorem dX2_again_28 : decode cX2_again 28 = .ok (.iadd, 1) := dk_96 (dk_at dksX2_again_1 4 rfl rfl)
theorem dX2_again_29 : decode cX2_again 29 = .ok (.iconst 0, 1) := dk_3 (dk_at dksX2_again_1 5 rfl rfl)
theorem dX2_again_30 : decode cX2_again 30 = .ok (.invokevirtual 638, 3) := dk_182 2 126 (dk_at dksX2_again_1 6 rfl rfl)
theorem dX2_again_33 : decode cX2_again 33 = .ok (.iconst 1, 1) := dk_4 (dk_at dksX2_again_1 9 rfl rfl)
theorem dX2_again_34 : decode cX2_again 34 = .ok (.ireturn, 1) := dk_172 (dk_at dksX2_again_1 10 rfl rfl)
theorem q131 : (Jvm.Cond.initialized "AskedNamesModel") ∈ lw_all := lw_g (lw_at lw_m1 6 rfl) rfl
theorem q778 : (Jvm.Cond.selects "AskedNamesModel" ({ cls := "java/lang/Object", name := "getClass", desc := "()Ljava/lang/Class;" } : Jvm.MethodName) ({ cls := "java/lang/Object", name := "getClass", desc := "()Ljava/lang/Class;" } : Jvm.MethodName)) ∈ lw_all := lw_g (lw_at lw_m3 173 rfl) rfl
theorem q2165 : (Jvm.Cond.instantiable "AskedNamesModel" (87 : Nat)) ∈ lw_all := lw_g (lw_at lw_m9 120 rfl) rfl
theorem q2167 : (Jvm.Cond.instanceMethod ({ cls := "AskedNamesModel", name := "<init>", desc := "()V" } : Jvm.MethodName)) ∈ lw_all := lw_g (lw_at lw_m9 122 rfl) rfl
theorem q2168 : (Jvm.Cond.code ({ cls := "AskedNamesModel", name := "<init>", desc := "()V" } : Jvm.MethodName) prog_25_method_1_code (1 : Nat) (Option.none : Option Jvm.ClassFile.FieldType)) ∈ lw_all := lw_g (lw_at lw_m9 123 rfl) rfl
theorem q2169 : (Jvm.Cond.methodLink "AskedNamesModel" (1 : Nat) ({ cls := "java/lang/Object", name := "<init>", desc := "()V" } : Jvm.MethodName)) ∈ lw_all := lw_g (lw_at lw_m9 124 rfl) rfl
theorem q2170 : (Jvm.Cond.fieldLink "AskedNamesModel" (169 : Nat) "AskedNamesModel" "code" "I") ∈ lw_all := lw_g (lw_at lw_m9 125 rfl) rfl
theorem q2171 : (Jvm.Cond.fieldLink "AskedNamesModel" (7 : Nat) "AskedNamesModel" "tape" "[B") ∈ lw_all := lw_g (lw_at lw_m9 126 rfl) rfl
theorem q2172 : (Jvm.Cond.fieldLink "AskedNamesModel" (13 : Nat) "AskedNamesModel" "size" "[I") ∈ lw_all := lw_g (lw_at lw_m9 127 rfl) rfl
theorem q2173 : (Jvm.Cond.fieldLink "AskedNamesModel" (17 : Nat) "AskedNamesModel" "fault" "[I") ∈ lw_all := lw_g (lw_at lw_m9 128 rfl) rfl
theorem q2174 : (Jvm.Cond.fieldLink "AskedNamesModel" (20 : Nat) "AskedNamesModel" "faultPlace" "[I") ∈ lw_all := lw_g (lw_at lw_m9 129 rfl) rfl
theorem q2175 : (Jvm.Cond.fieldLink "AskedNamesModel" (23 : Nat) "AskedNamesModel" "many" "[I") ∈ lw_all := lw_g (lw_at lw_m9 130 rfl) rfl
theorem q2176 : (Jvm.Cond.fieldLink "AskedNamesModel" (26 : Nat) "AskedNamesModel" "nets" "[I") ∈ lw_all := lw_g (lw_at lw_m9 131 rfl) rfl
theorem q2177 : (Jvm.Cond.fieldLink "AskedNamesModel" (29 : Nat) "AskedNamesModel" "runs" "[I") ∈ lw_all := lw_g (lw_at lw_m9 132 rfl) rfl
theorem q2178 : (Jvm.Cond.fieldLink "AskedNamesModel" (32 : Nat) "AskedNamesModel" "logs" "[I") ∈ lw_all := lw_g (lw_at lw_m9 133 rfl) rfl
theorem q2179 : (Jvm.Cond.fieldLink "AskedNamesModel" (189 : Nat) "AskedNamesModel" "reached" "I") ∈ lw_all := lw_g (lw_at lw_m9 134 rfl) rfl
theorem q2180 : (Jvm.Cond.fieldLink "AskedNamesModel" (192 : Nat) "AskedNamesModel" "length" "I") ∈ lw_all := lw_g (lw_at lw_m9 135 rfl) rfl
theorem q2181 : (Jvm.Cond.fieldLink "AskedNamesModel" (199 : Nat) "AskedNamesModel" "begins" "I") ∈ lw_all := lw_g (lw_at lw_m9 136 rfl) rfl
theorem q2182 : (Jvm.Cond.fieldLink "AskedNamesModel" (206 : Nat) "AskedNamesModel" "sort" "I") ∈ lw_all := lw_g (lw_at lw_m9 137 rfl) rfl
theorem q2183 : (Jvm.Cond.fieldLink "AskedNamesModel" (209 : Nat) "AskedNamesModel" "value" "I") ∈ lw_all := lw_g (lw_at lw_m9 138 rfl) rfl
theorem q2184 : (Jvm.Cond.fieldLink "AskedNamesModel" (202 : Nat) "AskedNamesModel" "word" "J") ∈ lw_all := lw_g (lw_at lw_m9 139 rfl) rfl
theorem q2185 : (Jvm.Cond.fieldLink "AskedNamesModel" (212 : Nat) "AskedNamesModel" "wrongAt" "I") ∈ lw_all := lw_g (lw_at lw_m9 140 rfl) rfl
theorem q2186 : (Jvm.Cond.fieldLink "AskedNamesModel" (215 : Nat) "AskedNamesModel" "laterFault" "I") ∈ lw_all := lw_g (lw_at lw_m9 141 rfl) rfl
theorem q2187 : (Jvm.Cond.fieldLink "AskedNamesModel" (218 : Nat) "AskedNamesModel" "laterPlace" "I") ∈ lw_all := lw_g (lw_at lw_m9 142 rfl) rfl
theorem q2188 : (Jvm.Cond.fieldLink "AskedNamesModel" (35 : Nat) "AskedNamesModel" "told" "[I") ∈ lw_all := lw_g (lw_at lw_m9 143 rfl) rfl
theorem q2189 : (Jvm.Cond.fieldLink "AskedNamesModel" (38 : Nat) "AskedNamesModel" "read" "[I") ∈ lw_all := lw_g (lw_at lw_m9 144 rfl) rfl
theorem q2190 : (Jvm.Cond.fieldLink "AskedNamesModel" (240 : Nat) "AskedNamesModel" "farNode" "I") ∈ lw_all := lw_g (lw_at lw_m9 145 rfl) rfl
theorem q2191 : (Jvm.Cond.fieldLink "AskedNamesModel" (229 : Nat) "AskedNamesModel" "good" "Z") ∈ lw_all := lw_g (lw_at lw_m9 146 rfl) rfl
theorem q2192 : (Jvm.Cond.fieldLink "AskedNamesModel" (332 : Nat) "AskedNamesModel" "net" "I") ∈ lw_all := lw_g (lw_at lw_m9 147 rfl) rfl
theorem q2193 : (Jvm.Cond.fieldLink "AskedNamesModel" (339 : Nat) "AskedNamesModel" "nodes" "I") ∈ lw_all := lw_g (lw_at lw_m9 148 rfl) rfl
theorem q2194 : (Jvm.Cond.fieldLink "AskedNamesModel" (342 : Nat) "AskedNamesModel" "life" "I") ∈ lw_all := lw_g (lw_at lw_m9 149 rfl) rfl
theorem q2195 : (Jvm.Cond.fieldLink "AskedNamesModel" (41 : Nat) "AskedNamesModel" "linkOf" "[I") ∈ lw_all := lw_g (lw_at lw_m9 150 rfl) rfl
theorem q2196 : (Jvm.Cond.fieldLink "AskedNamesModel" (351 : Nat) "AskedNamesModel" "down" "I") ∈ lw_all := lw_g (lw_at lw_m9 151 rfl) rfl
theorem q2197 : (Jvm.Cond.fieldLink "AskedNamesModel" (384 : Nat) "AskedNamesModel" "minute" "I") ∈ lw_all := lw_g (lw_at lw_m9 152 rfl) rfl
theorem q2198 : (Jvm.Cond.fieldLink "AskedNamesModel" (44 : Nat) "AskedNamesModel" "dead" "[J") ∈ lw_all := lw_g (lw_at lw_m9 153 rfl) rfl
theorem q2199 : (Jvm.Cond.fieldLink "AskedNamesModel" (48 : Nat) "AskedNamesModel" "measured" "[I") ∈ lw_all := lw_g (lw_at lw_m9 154 rfl) rfl
theorem q2200 : (Jvm.Cond.fieldLink "AskedNamesModel" (51 : Nat) "AskedNamesModel" "storeMany" "[I") ∈ lw_all := lw_g (lw_at lw_m9 155 rfl) rfl
theorem q2201 : (Jvm.Cond.fieldLink "AskedNamesModel" (54 : Nat) "AskedNamesModel" "storeName" "[I") ∈ lw_all := lw_g (lw_at lw_m9 156 rfl) rfl
theorem q2202 : (Jvm.Cond.fieldLink "AskedNamesModel" (57 : Nat) "AskedNamesModel" "storeUntil" "[I") ∈ lw_all := lw_g (lw_at lw_m9 157 rfl) rfl
theorem q2203 : (Jvm.Cond.fieldLink "AskedNamesModel" (60 : Nat) "AskedNamesModel" "storeBy" "[I") ∈ lw_all := lw_g (lw_at lw_m9 158 rfl) rfl
theorem q2204 : (Jvm.Cond.fieldLink "AskedNamesModel" (63 : Nat) "AskedNamesModel" "entryMany" "[I") ∈ lw_all := lw_g (lw_at lw_m9 159 rfl) rfl
theorem q2205 : (Jvm.Cond.fieldLink "AskedNamesModel" (66 : Nat) "AskedNamesModel" "entryName" "[I") ∈ lw_all := lw_g (lw_at lw_m9 160 rfl) rfl
theorem q2206 : (Jvm.Cond.fieldLink "AskedNamesModel" (69 : Nat) "AskedNamesModel" "entryWish" "[I") ∈ lw_all := lw_g (lw_at lw_m9 161 rfl) rfl
theorem q2207 : (Jvm.Cond.fieldLink "AskedNamesModel" (72 : Nat) "AskedNamesModel" "entryIn" "[I") ∈ lw_all := lw_g (lw_at lw_m9 162 rfl) rfl
theorem q2208 : (Jvm.Cond.fieldLink "AskedNamesModel" (75 : Nat) "AskedNamesModel" "entryAsks" "[J") ∈ lw_all := lw_g (lw_at lw_m9 163 rfl) rfl
theorem q2209 : (Jvm.Cond.fieldLink "AskedNamesModel" (78 : Nat) "AskedNamesModel" "entryNonces" "[J") ∈ lw_all := lw_g (lw_at lw_m9 164 rfl) rfl
theorem q2210 : (Jvm.Cond.fieldLink "AskedNamesModel" (81 : Nat) "AskedNamesModel" "entryFirst" "[I") ∈ lw_all := lw_g (lw_at lw_m9 165 rfl) rfl
theorem q2211 : (Jvm.Cond.fieldLink "AskedNamesModel" (84 : Nat) "AskedNamesModel" "entryOut" "[I") ∈ lw_all := lw_g (lw_at lw_m9 166 rfl) rfl
theorem q2212 : (Jvm.Cond.fieldLink "AskedNamesModel" (87 : Nat) "AskedNamesModel" "entryTried" "[I") ∈ lw_all := lw_g (lw_at lw_m9 167 rfl) rfl
theorem q2213 : (Jvm.Cond.fieldLink "AskedNamesModel" (90 : Nat) "AskedNamesModel" "entrySent" "[I") ∈ lw_all := lw_g (lw_at lw_m9 168 rfl) rfl
theorem q2214 : (Jvm.Cond.fieldLink "AskedNamesModel" (93 : Nat) "AskedNamesModel" "entryEnds" "[I") ∈ lw_all := lw_g (lw_at lw_m9 169 rfl) rfl
theorem q2215 : (Jvm.Cond.fieldLink "AskedNamesModel" (387 : Nat) "AskedNamesModel" "ways" "I") ∈ lw_all := lw_g (lw_at lw_m9 170 rfl) rfl
theorem q2216 : (Jvm.Cond.fieldLink "AskedNamesModel" (96 : Nat) "AskedNamesModel" "wayKind" "[I") ∈ lw_all := lw_g (lw_at lw_m9 171 rfl) rfl
theorem q2217 : (Jvm.Cond.fieldLink "AskedNamesModel" (99 : Nat) "AskedNamesModel" "wayFrom" "[I") ∈ lw_all := lw_g (lw_at lw_m9 172 rfl) rfl
theorem q2218 : (Jvm.Cond.fieldLink "AskedNamesModel" (102 : Nat) "AskedNamesModel" "wayTo" "[I") ∈ lw_all := lw_g (lw_at lw_m9 173 rfl) rfl
theorem q2219 : (Jvm.Cond.fieldLink "AskedNamesModel" (105 : Nat) "AskedNamesModel" "wayName" "[I") ∈ lw_all := lw_g (lw_at lw_m9 174 rfl) rfl
theorem q2220 : (Jvm.Cond.fieldLink "AskedNamesModel" (108 : Nat) "AskedNamesModel" "wayWish" "[I") ∈ lw_all := lw_g (lw_at lw_m9 175 rfl) rfl
theorem q2221 : (Jvm.Cond.fieldLink "AskedNamesModel" (111 : Nat) "AskedNamesModel" "wayNonce" "[I") ∈ lw_all := lw_g (lw_at lw_m9 176 rfl) rfl
theorem q2222 : (Jvm.Cond.fieldLink "AskedNamesModel" (114 : Nat) "AskedNamesModel" "wayDue" "[I") ∈ lw_all := lw_g (lw_at lw_m9 177 rfl) rfl
theorem q2223 : (Jvm.Cond.fieldLink "AskedNamesModel" (117 : Nat) "AskedNamesModel" "wayA" "[I") ∈ lw_all := lw_g (lw_at lw_m9 178 rfl) rfl
theorem q2224 : (Jvm.Cond.fieldLink "AskedNamesModel" (120 : Nat) "AskedNamesModel" "wayB" "[I") ∈ lw_all := lw_g (lw_at lw_m9 179 rfl) rfl
theorem q2225 : (Jvm.Cond.fieldLink "AskedNamesModel" (123 : Nat) "AskedNamesModel" "wayC" "[I") ∈ lw_all := lw_g (lw_at lw_m9 180 rfl) rfl
theorem q2226 : (Jvm.Cond.fieldLink "AskedNamesModel" (126 : Nat) "AskedNamesModel" "wayD" "[I") ∈ lw_all := lw_g (lw_at lw_m9 181 rfl) rfl
theorem q2227 : (Jvm.Cond.fieldLink "AskedNamesModel" (129 : Nat) "AskedNamesModel" "cameOf" "[I") ∈ lw_all := lw_g (lw_at lw_m9 182 rfl) rfl
theorem q2228 : (Jvm.Cond.fieldLink "AskedNamesModel" (132 : Nat) "AskedNamesModel" "cameAt" "[I") ∈ lw_all := lw_g (lw_at lw_m9 183 rfl) rfl
theorem q2229 : (Jvm.Cond.fieldLink "AskedNamesModel" (135 : Nat) "AskedNamesModel" "askedAt" "[I") ∈ lw_all := lw_g (lw_at lw_m9 184 rfl) rfl
theorem q2230 : (Jvm.Cond.fieldLink "AskedNamesModel" (138 : Nat) "AskedNamesModel" "cameFrom" "[I") ∈ lw_all := lw_g (lw_at lw_m9 185 rfl) rfl
theorem q2231 : (Jvm.Cond.fieldLink "AskedNamesModel" (141 : Nat) "AskedNamesModel" "cameStore" "[I") ∈ lw_all := lw_g (lw_at lw_m9 186 rfl) rfl
theorem q2232 : (Jvm.Cond.fieldLink "AskedNamesModel" (144 : Nat) "AskedNamesModel" "cameDepth" "[I") ∈ lw_all := lw_g (lw_at lw_m9 187 rfl) rfl
theorem q2233 : (Jvm.Cond.fieldLink "AskedNamesModel" (147 : Nat) "AskedNamesModel" "cameRoot" "[I") ∈ lw_all := lw_g (lw_at lw_m9 188 rfl) rfl
theorem q2234 : (Jvm.Cond.fieldLink "AskedNamesModel" (150 : Nat) "AskedNamesModel" "cameWhere" "[I") ∈ lw_all := lw_g (lw_at lw_m9 189 rfl) rfl
theorem q2235 : (Jvm.Cond.fieldLink "AskedNamesModel" (390 : Nat) "AskedNamesModel" "sent" "I") ∈ lw_all := lw_g (lw_at lw_m9 190 rfl) rfl
theorem q2236 : (Jvm.Cond.fieldLink "AskedNamesModel" (393 : Nat) "AskedNamesModel" "hits" "I") ∈ lw_all := lw_g (lw_at lw_m9 191 rfl) rfl
theorem q2237 : (Jvm.Cond.fieldLink "AskedNamesModel" (396 : Nat) "AskedNamesModel" "joined" "I") ∈ lw_all := lw_g (lw_at lw_m9 192 rfl) rfl
theorem q2238 : (Jvm.Cond.fieldLink "AskedNamesModel" (399 : Nat) "AskedNamesModel" "loops" "I") ∈ lw_all := lw_g (lw_at lw_m9 193 rfl) rfl
theorem q2239 : (Jvm.Cond.fieldLink "AskedNamesModel" (402 : Nat) "AskedNamesModel" "dropped" "I") ∈ lw_all := lw_g (lw_at lw_m9 194 rfl) rfl
theorem q2240 : (Jvm.Cond.fieldLink "AskedNamesModel" (405 : Nat) "AskedNamesModel" "missed" "I") ∈ lw_all := lw_g (lw_at lw_m9 195 rfl) rfl
theorem q2241 : (Jvm.Cond.fieldLink "AskedNamesModel" (411 : Nat) "AskedNamesModel" "a" "I") ∈ lw_all := lw_g (lw_at lw_m9 196 rfl) rfl
theorem q2242 : (Jvm.Cond.fieldLink "AskedNamesModel" (414 : Nat) "AskedNamesModel" "b" "I") ∈ lw_all := lw_g (lw_at lw_m9 197 rfl) rfl
theorem q2243 : (Jvm.Cond.fieldLink "AskedNamesModel" (417 : Nat) "AskedNamesModel" "c" "I") ∈ lw_all := lw_g (lw_at lw_m9 198 rfl) rfl
theorem q2244 : (Jvm.Cond.fieldLink "AskedNamesModel" (420 : Nat) "AskedNamesModel" "d" "I") ∈ lw_all := lw_g (lw_at lw_m9 199 rfl) rfl
theorem q2245 : (Jvm.Cond.fieldLink "AskedNamesModel" (528 : Nat) "AskedNamesModel" "run" "I") ∈ lw_all := lw_g (lw_at lw_m9 200 rfl) rfl
theorem q2246 : (Jvm.Cond.fieldLink "AskedNamesModel" (540 : Nat) "AskedNamesModel" "widest" "I") ∈ lw_all := lw_g (lw_at lw_m9 201 rfl) rfl
theorem q2247 : (Jvm.Cond.fieldLink "AskedNamesModel" (153 : Nat) "AskedNamesModel" "parts" "[I") ∈ lw_all := lw_g (lw_at lw_m9 202 rfl) rfl
theorem q2248 : (Jvm.Cond.fieldLink "AskedNamesModel" (156 : Nat) "AskedNamesModel" "walked" "[I") ∈ lw_all := lw_g (lw_at lw_m9 203 rfl) rfl
theorem q2249 : (Jvm.Cond.fieldLink "AskedNamesModel" (579 : Nat) "AskedNamesModel" "walkedMany" "I") ∈ lw_all := lw_g (lw_at lw_m9 204 rfl) rfl
theorem q2250 : (Jvm.Cond.fieldLink "AskedNamesModel" (159 : Nat) "AskedNamesModel" "least" "[I") ∈ lw_all := lw_g (lw_at lw_m9 205 rfl) rfl
theorem q2251 : (Jvm.Cond.fieldLink "AskedNamesModel" (585 : Nat) "AskedNamesModel" "log" "I") ∈ lw_all := lw_g (lw_at lw_m9 206 rfl) rfl
theorem q2252 : (Jvm.Cond.fieldLink "AskedNamesModel" (597 : Nat) "AskedNamesModel" "found" "I") ∈ lw_all := lw_g (lw_at lw_m9 207 rfl) rfl
theorem q2253 : (Jvm.Cond.fieldLink "AskedNamesModel" (600 : Nat) "AskedNamesModel" "asked" "I") ∈ lw_all := lw_g (lw_at lw_m9 208 rfl) rfl
theorem q2254 : (Jvm.Cond.fieldLink "AskedNamesModel" (162 : Nat) "AskedNamesModel" "seen" "[I") ∈ lw_all := lw_g (lw_at lw_m9 209 rfl) rfl
theorem q2255 : (Jvm.Cond.fieldLink "AskedNamesModel" (612 : Nat) "AskedNamesModel" "seed" "I") ∈ lw_all := lw_g (lw_at lw_m9 210 rfl) rfl
theorem q2256 : (Jvm.Cond.fieldLink "AskedNamesModel" (165 : Nat) "AskedNamesModel" "saved" "[Z") ∈ lw_all := lw_g (lw_at lw_m9 211 rfl) rfl
theorem q2257 : (Jvm.Cond.lays "AskedNamesModel" "AskedNamesModel" "code" "I") ∈ lw_all := lw_g (lw_at lw_m9 212 rfl) rfl
theorem q2258 : (Jvm.Cond.soleField "AskedNamesModel" "code") ∈ lw_all := lw_g (lw_at lw_m9 213 rfl) rfl
theorem q2259 : (Jvm.Cond.laysFinal "AskedNamesModel" "AskedNamesModel" "tape" "[B") ∈ lw_all := lw_g (lw_at lw_m9 214 rfl) rfl
theorem q2260 : (Jvm.Cond.soleField "AskedNamesModel" "tape") ∈ lw_all := lw_g (lw_at lw_m9 215 rfl) rfl
theorem q2261 : (Jvm.Cond.laysFinal "AskedNamesModel" "AskedNamesModel" "size" "[I") ∈ lw_all := lw_g (lw_at lw_m9 216 rfl) rfl
theorem q2262 : (Jvm.Cond.soleField "AskedNamesModel" "size") ∈ lw_all := lw_g (lw_at lw_m9 217 rfl) rfl
theorem q2263 : (Jvm.Cond.laysFinal "AskedNamesModel" "AskedNamesModel" "fault" "[I") ∈ lw_all := lw_g (lw_at lw_m9 218 rfl) rfl
theorem q2264 : (Jvm.Cond.soleField "AskedNamesModel" "fault") ∈ lw_all := lw_g (lw_at lw_m9 219 rfl) rfl
theorem q2265 : (Jvm.Cond.laysFinal "AskedNamesModel" "AskedNamesModel" "faultPlace" "[I") ∈ lw_all := lw_g (lw_at lw_m9 220 rfl) rfl
theorem q2266 : (Jvm.Cond.soleField "AskedNamesModel" "faultPlace") ∈ lw_all := lw_g (lw_at lw_m9 221 rfl) rfl
theorem q2267 : (Jvm.Cond.laysFinal "AskedNamesModel" "AskedNamesModel" "many" "[I") ∈ lw_all := lw_g (lw_at lw_m9 222 rfl) rfl
theorem q2268 : (Jvm.Cond.soleField "AskedNamesModel" "many") ∈ lw_all := lw_g (lw_at lw_m9 223 rfl) rfl
theorem q2269 : (Jvm.Cond.laysFinal "AskedNamesModel" "AskedNamesModel" "nets" "[I") ∈ lw_all := lw_g (lw_at lw_m9 224 rfl) rfl
theorem q2270 : (Jvm.Cond.soleField "AskedNamesModel" "nets") ∈ lw_all := lw_g (lw_at lw_m9 225 rfl) rfl
theorem q2271 : (Jvm.Cond.laysFinal "AskedNamesModel" "AskedNamesModel" "runs" "[I") ∈ lw_all := lw_g (lw_at lw_m9 226 rfl) rfl
theorem q2272 : (Jvm.Cond.soleField "AskedNamesModel" "runs") ∈ lw_all := lw_g (lw_at lw_m9 227 rfl) rfl
theorem q2273 : (Jvm.Cond.laysFinal "AskedNamesModel" "AskedNamesModel" "logs" "[I") ∈ lw_all := lw_g (lw_at lw_m9 228 rfl) rfl
theorem q2274 : (Jvm.Cond.soleField "AskedNamesModel" "logs") ∈ lw_all := lw_g (lw_at lw_m9 229 rfl) rfl
theorem q2275 : (Jvm.Cond.lays "AskedNamesModel" "AskedNamesModel" "reached" "I") ∈ lw_all := lw_g (lw_at lw_m9 230 rfl) rfl
theorem q2276 : (Jvm.Cond.soleField "AskedNamesModel" "reached") ∈ lw_all := lw_g (lw_at lw_m9 231 rfl) rfl
theorem q2277 : (Jvm.Cond.lays "AskedNamesModel" "AskedNamesModel" "length" "I") ∈ lw_all := lw_g (lw_at lw_m9 232 rfl) rfl
theorem q2278 : (Jvm.Cond.soleField "AskedNamesModel" "length") ∈ lw_all := lw_g (lw_at lw_m9 233 rfl) rfl
theorem q2279 : (Jvm.Cond.lays "AskedNamesModel" "AskedNamesModel" "begins" "I") ∈ lw_all := lw_g (lw_at lw_m9 234 rfl) rfl
theorem q2280 : (Jvm.Cond.soleField "AskedNamesModel" "begins") ∈ lw_all := lw_g (lw_at lw_m9 235 rfl) rfl
theorem q2281 : (Jvm.Cond.lays "AskedNamesModel" "AskedNamesModel" "sort" "I") ∈ lw_all := lw_g (lw_at lw_m9 236 rfl) rfl
theorem q2282 : (Jvm.Cond.soleField "AskedNamesModel" "sort") ∈ lw_all := lw_g (lw_at lw_m9 237 rfl) rfl
theorem q2283 : (Jvm.Cond.lays "AskedNamesModel" "AskedNamesModel" "value" "I") ∈ lw_all := lw_g (lw_at lw_m9 238 rfl) rfl
theorem q2284 : (Jvm.Cond.soleField "AskedNamesModel" "value") ∈ lw_all := lw_g (lw_at lw_m9 239 rfl) rfl
theorem q2285 : (Jvm.Cond.lays "AskedNamesModel" "AskedNamesModel" "word" "J") ∈ lw_all := lw_g (lw_at lw_m10 0 rfl) rfl
theorem q2286 : (Jvm.Cond.soleField "AskedNamesModel" "word") ∈ lw_all := lw_g (lw_at lw_m10 1 rfl) rfl
theorem q2287 : (Jvm.Cond.lays "AskedNamesModel" "AskedNamesModel" "wrongAt" "I") ∈ lw_all := lw_g (lw_at lw_m10 2 rfl) rfl
theorem q2288 : (Jvm.Cond.soleField "AskedNamesModel" "wrongAt") ∈ lw_all := lw_g (lw_at lw_m10 3 rfl) rfl
theorem q2289 : (Jvm.Cond.lays "AskedNamesModel" "AskedNamesModel" "laterFault" "I") ∈ lw_all := lw_g (lw_at lw_m10 4 rfl) rfl
theorem q2290 : (Jvm.Cond.soleField "AskedNamesModel" "laterFault") ∈ lw_all := lw_g (lw_at lw_m10 5 rfl) rfl
theorem q2291 : (Jvm.Cond.lays "AskedNamesModel" "AskedNamesModel" "laterPlace" "I") ∈ lw_all := lw_g (lw_at lw_m10 6 rfl) rfl
theorem q2292 : (Jvm.Cond.soleField "AskedNamesModel" "laterPlace") ∈ lw_all := lw_g (lw_at lw_m10 7 rfl) rfl
theorem q2293 : (Jvm.Cond.laysFinal "AskedNamesModel" "AskedNamesModel" "told" "[I") ∈ lw_all := lw_g (lw_at lw_m10 8 rfl) rfl
theorem q2294 : (Jvm.Cond.soleField "AskedNamesModel" "told") ∈ lw_all := lw_g (lw_at lw_m10 9 rfl) rfl
theorem q2295 : (Jvm.Cond.laysFinal "AskedNamesModel" "AskedNamesModel" "read" "[I") ∈ lw_all := lw_g (lw_at lw_m10 10 rfl) rfl
theorem q2296 : (Jvm.Cond.soleField "AskedNamesModel" "read") ∈ lw_all := lw_g (lw_at lw_m10 11 rfl) rfl
theorem q2297 : (Jvm.Cond.lays "AskedNamesModel" "AskedNamesModel" "farNode" "I") ∈ lw_all := lw_g (lw_at lw_m10 12 rfl) rfl
theorem q2298 : (Jvm.Cond.soleField "AskedNamesModel" "farNode") ∈ lw_all := lw_g (lw_at lw_m10 13 rfl) rfl
theorem q2299 : (Jvm.Cond.lays "AskedNamesModel" "AskedNamesModel" "good" "Z") ∈ lw_all := lw_g (lw_at lw_m10 14 rfl) rfl
theorem q2300 : (Jvm.Cond.soleField "AskedNamesModel" "good") ∈ lw_all := lw_g (lw_at lw_m10 15 rfl) rfl
theorem q2301 : (Jvm.Cond.lays "AskedNamesModel" "AskedNamesModel" "net" "I") ∈ lw_all := lw_g (lw_at lw_m10 16 rfl) rfl
theorem q2302 : (Jvm.Cond.soleField "AskedNamesModel" "net") ∈ lw_all := lw_g (lw_at lw_m10 17 rfl) rfl
theorem q2303 : (Jvm.Cond.lays "AskedNamesModel" "AskedNamesModel" "nodes" "I") ∈ lw_all := lw_g (lw_at lw_m10 18 rfl) rfl
theorem q2304 : (Jvm.Cond.soleField "AskedNamesModel" "nodes") ∈ lw_all := lw_g (lw_at lw_m10 19 rfl) rfl
theorem q2305 : (Jvm.Cond.lays "AskedNamesModel" "AskedNamesModel" "life" "I") ∈ lw_all := lw_g (lw_at lw_m10 20 rfl) rfl
theorem q2306 : (Jvm.Cond.soleField "AskedNamesModel" "life") ∈ lw_all := lw_g (lw_at lw_m10 21 rfl) rfl
theorem q2307 : (Jvm.Cond.laysFinal "AskedNamesModel" "AskedNamesModel" "linkOf" "[I") ∈ lw_all := lw_g (lw_at lw_m10 22 rfl) rfl
theorem q2308 : (Jvm.Cond.soleField "AskedNamesModel" "linkOf") ∈ lw_all := lw_g (lw_at lw_m10 23 rfl) rfl
theorem q2309 : (Jvm.Cond.lays "AskedNamesModel" "AskedNamesModel" "down" "I") ∈ lw_all := lw_g (lw_at lw_m10 24 rfl) rfl
theorem q2310 : (Jvm.Cond.soleField "AskedNamesModel" "down") ∈ lw_all := lw_g (lw_at lw_m10 25 rfl) rfl
theorem q2311 : (Jvm.Cond.lays "AskedNamesModel" "AskedNamesModel" "minute" "I") ∈ lw_all := lw_g (lw_at lw_m10 26 rfl) rfl
theorem q2312 : (Jvm.Cond.soleField "AskedNamesModel" "minute") ∈ lw_all := lw_g (lw_at lw_m10 27 rfl) rfl
theorem q2313 : (Jvm.Cond.laysFinal "AskedNamesModel" "AskedNamesModel" "dead" "[J") ∈ lw_all := lw_g (lw_at lw_m10 28 rfl) rfl
theorem q2314 : (Jvm.Cond.soleField "AskedNamesModel" "dead") ∈ lw_all := lw_g (lw_at lw_m10 29 rfl) rfl
theorem q2315 : (Jvm.Cond.laysFinal "AskedNamesModel" "AskedNamesModel" "measured" "[I") ∈ lw_all := lw_g (lw_at lw_m10 30 rfl) rfl
theorem q2316 : (Jvm.Cond.soleField "AskedNamesModel" "measured") ∈ lw_all := lw_g (lw_at lw_m10 31 rfl) rfl
theorem q2317 : (Jvm.Cond.laysFinal "AskedNamesModel" "AskedNamesModel" "storeMany" "[I") ∈ lw_all := lw_g (lw_at lw_m10 32 rfl) rfl
theorem q2318 : (Jvm.Cond.soleField "AskedNamesModel" "storeMany") ∈ lw_all := lw_g (lw_at lw_m10 33 rfl) rfl
theorem q2319 : (Jvm.Cond.laysFinal "AskedNamesModel" "AskedNamesModel" "storeName" "[I") ∈ lw_all := lw_g (lw_at lw_m10 34 rfl) rfl
theorem q2320 : (Jvm.Cond.soleField "AskedNamesModel" "storeName") ∈ lw_all := lw_g (lw_at lw_m10 35 rfl) rfl
theorem q2321 : (Jvm.Cond.laysFinal "AskedNamesModel" "AskedNamesModel" "storeUntil" "[I") ∈ lw_all := lw_g (lw_at lw_m10 36 rfl) rfl
theorem q2322 : (Jvm.Cond.soleField "AskedNamesModel" "storeUntil") ∈ lw_all := lw_g (lw_at lw_m10 37 rfl) rfl
theorem q2323 : (Jvm.Cond.laysFinal "AskedNamesModel" "AskedNamesModel" "storeBy" "[I") ∈ lw_all := lw_g (lw_at lw_m10 38 rfl) rfl
theorem q2324 : (Jvm.Cond.soleField "AskedNamesModel" "storeBy") ∈ lw_all := lw_g (lw_at lw_m10 39 rfl) rfl
theorem q2325 : (Jvm.Cond.laysFinal "AskedNamesModel" "AskedNamesModel" "entryMany" "[I") ∈ lw_all := lw_g (lw_at lw_m10 40 rfl) rfl
theorem q2326 : (Jvm.Cond.soleField "AskedNamesModel" "entryMany") ∈ lw_all := lw_g (lw_at lw_m10 41 rfl) rfl
theorem q2327 : (Jvm.Cond.laysFinal "AskedNamesModel" "AskedNamesModel" "entryName" "[I") ∈ lw_all := lw_g (lw_at lw_m10 42 rfl) rfl
theorem q2328 : (Jvm.Cond.soleField "AskedNamesModel" "entryName") ∈ lw_all := lw_g (lw_at lw_m10 43 rfl) rfl
theorem q2329 : (Jvm.Cond.laysFinal "AskedNamesModel" "AskedNamesModel" "entryWish" "[I") ∈ lw_all := lw_g (lw_at lw_m10 44 rfl) rfl
theorem q2330 : (Jvm.Cond.soleField "AskedNamesModel" "entryWish") ∈ lw_all := lw_g (lw_at lw_m10 45 rfl) rfl
theorem q2331 : (Jvm.Cond.laysFinal "AskedNamesModel" "AskedNamesModel" "entryIn" "[I") ∈ lw_all := lw_g (lw_at lw_m10 46 rfl) rfl
theorem q2332 : (Jvm.Cond.soleField "AskedNamesModel" "entryIn") ∈ lw_all := lw_g (lw_at lw_m10 47 rfl) rfl
theorem q2333 : (Jvm.Cond.laysFinal "AskedNamesModel" "AskedNamesModel" "entryAsks" "[J") ∈ lw_all := lw_g (lw_at lw_m10 48 rfl) rfl
theorem q2334 : (Jvm.Cond.soleField "AskedNamesModel" "entryAsks") ∈ lw_all := lw_g (lw_at lw_m10 49 rfl) rfl
theorem q2335 : (Jvm.Cond.laysFinal "AskedNamesModel" "AskedNamesModel" "entryNonces" "[J") ∈ lw_all := lw_g (lw_at lw_m10 50 rfl) rfl
theorem q2336 : (Jvm.Cond.soleField "AskedNamesModel" "entryNonces") ∈ lw_all := lw_g (lw_at lw_m10 51 rfl) rfl
theorem q2337 : (Jvm.Cond.laysFinal "AskedNamesModel" "AskedNamesModel" "entryFirst" "[I") ∈ lw_all := lw_g (lw_at lw_m10 52 rfl) rfl
theorem q2338 : (Jvm.Cond.soleField "AskedNamesModel" "entryFirst") ∈ lw_all := lw_g (lw_at lw_m10 53 rfl) rfl
theorem q2339 : (Jvm.Cond.laysFinal "AskedNamesModel" "AskedNamesModel" "entryOut" "[I") ∈ lw_all := lw_g (lw_at lw_m10 54 rfl) rfl
theorem q2340 : (Jvm.Cond.soleField "AskedNamesModel" "entryOut") ∈ lw_all := lw_g (lw_at lw_m10 55 rfl) rfl
theorem q2341 : (Jvm.Cond.laysFinal "AskedNamesModel" "AskedNamesModel" "entryTried" "[I") ∈ lw_all := lw_g (lw_at lw_m10 56 rfl) rfl
theorem q2342 : (Jvm.Cond.soleField "AskedNamesModel" "entryTried") ∈ lw_all := lw_g (lw_at lw_m10 57 rfl) rfl
theorem q2343 : (Jvm.Cond.laysFinal "AskedNamesModel" "AskedNamesModel" "entrySent" "[I") ∈ lw_all := lw_g (lw_at lw_m10 58 rfl) rfl
theorem q2344 : (Jvm.Cond.soleField "AskedNamesModel" "entrySent") ∈ lw_all := lw_g (lw_at lw_m10 59 rfl) rfl
theorem q2345 : (Jvm.Cond.laysFinal "AskedNamesModel" "AskedNamesModel" "entryEnds" "[I") ∈ lw_all := lw_g (lw_at lw_m10 60 rfl) rfl
theorem q2346 : (Jvm.Cond.soleField "AskedNamesModel" "entryEnds") ∈ lw_all := lw_g (lw_at lw_m10 61 rfl) rfl
theorem q2347 : (Jvm.Cond.lays "AskedNamesModel" "AskedNamesModel" "ways" "I") ∈ lw_all := lw_g (lw_at lw_m10 62 rfl) rfl
theorem q2348 : (Jvm.Cond.soleField "AskedNamesModel" "ways") ∈ lw_all := lw_g (lw_at lw_m10 63 rfl) rfl
theorem q2349 : (Jvm.Cond.laysFinal "AskedNamesModel" "AskedNamesModel" "wayKind" "[I") ∈ lw_all := lw_g (lw_at lw_m10 64 rfl) rfl
theorem q2350 : (Jvm.Cond.soleField "AskedNamesModel" "wayKind") ∈ lw_all := lw_g (lw_at lw_m10 65 rfl) rfl
theorem q2351 : (Jvm.Cond.laysFinal "AskedNamesModel" "AskedNamesModel" "wayFrom" "[I") ∈ lw_all := lw_g (lw_at lw_m10 66 rfl) rfl
theorem q2352 : (Jvm.Cond.soleField "AskedNamesModel" "wayFrom") ∈ lw_all := lw_g (lw_at lw_m10 67 rfl) rfl
theorem q2353 : (Jvm.Cond.laysFinal "AskedNamesModel" "AskedNamesModel" "wayTo" "[I") ∈ lw_all := lw_g (lw_at lw_m10 68 rfl) rfl
theorem q2354 : (Jvm.Cond.soleField "AskedNamesModel" "wayTo") ∈ lw_all := lw_g (lw_at lw_m10 69 rfl) rfl
theorem q2355 : (Jvm.Cond.laysFinal "AskedNamesModel" "AskedNamesModel" "wayName" "[I") ∈ lw_all := lw_g (lw_at lw_m10 70 rfl) rfl
theorem q2356 : (Jvm.Cond.soleField "AskedNamesModel" "wayName") ∈ lw_all := lw_g (lw_at lw_m10 71 rfl) rfl
theorem q2357 : (Jvm.Cond.laysFinal "AskedNamesModel" "AskedNamesModel" "wayWish" "[I") ∈ lw_all := lw_g (lw_at lw_m10 72 rfl) rfl
theorem q2358 : (Jvm.Cond.soleField "AskedNamesModel" "wayWish") ∈ lw_all := lw_g (lw_at lw_m10 73 rfl) rfl
theorem q2359 : (Jvm.Cond.laysFinal "AskedNamesModel" "AskedNamesModel" "wayNonce" "[I") ∈ lw_all := lw_g (lw_at lw_m10 74 rfl) rfl
theorem q2360 : (Jvm.Cond.soleField "AskedNamesModel" "wayNonce") ∈ lw_all := lw_g (lw_at lw_m10 75 rfl) rfl
theorem q2361 : (Jvm.Cond.laysFinal "AskedNamesModel" "AskedNamesModel" "wayDue" "[I") ∈ lw_all := lw_g (lw_at lw_m10 76 rfl) rfl
theorem q2362 : (Jvm.Cond.soleField "AskedNamesModel" "wayDue") ∈ lw_all := lw_g (lw_at lw_m10 77 rfl) rfl
theorem q2363 : (Jvm.Cond.laysFinal "AskedNamesModel" "AskedNamesModel" "wayA" "[I") ∈ lw_all := lw_g (lw_at lw_m10 78 rfl) rfl
theorem q2364 : (Jvm.Cond.soleField "AskedNamesModel" "wayA") ∈ lw_all := lw_g (lw_at lw_m10 79 rfl) rfl
theorem q2365 : (Jvm.Cond.laysFinal "AskedNamesModel" "AskedNamesModel" "wayB" "[I") ∈ lw_all := lw_g (lw_at lw_m10 80 rfl) rfl
theorem q2366 : (Jvm.Cond.soleField "AskedNamesModel" "wayB") ∈ lw_all := lw_g (lw_at lw_m10 81 rfl) rfl
theorem q2367 : (Jvm.Cond.laysFinal "AskedNamesModel" "AskedNamesModel" "wayC" "[I") ∈ lw_all := lw_g (lw_at lw_m10 82 rfl) rfl
theorem q2368 : (Jvm.Cond.soleField "AskedNamesModel" "wayC") ∈ lw_all := lw_g (lw_at lw_m10 83 rfl) rfl
theorem q2369 : (Jvm.Cond.laysFinal "AskedNamesModel" "AskedNamesModel" "wayD" "[I") ∈ lw_all := lw_g (lw_at lw_m10 84 rfl) rfl
theorem q2370 : (Jvm.Cond.soleField "AskedNamesModel" "wayD") ∈ lw_all := lw_g (lw_at lw_m10 85 rfl) rfl
theorem q2371 : (Jvm.Cond.laysFinal "AskedNamesModel" "AskedNamesModel" "cameOf" "[I") ∈ lw_all := lw_g (lw_at lw_m10 86 rfl) rfl
theorem q2372 : (Jvm.Cond.soleField "AskedNamesModel" "cameOf") ∈ lw_all := lw_g (lw_at lw_m10 87 rfl) rfl
theorem q2373 : (Jvm.Cond.laysFinal "AskedNamesModel" "AskedNamesModel" "cameAt" "[I") ∈ lw_all := lw_g (lw_at lw_m10 88 rfl) rfl
theorem q2374 : (Jvm.Cond.soleField "AskedNamesModel" "cameAt") ∈ lw_all := lw_g (lw_at lw_m10 89 rfl) rfl
theorem q2375 : (Jvm.Cond.laysFinal "AskedNamesModel" "AskedNamesModel" "askedAt" "[I") ∈ lw_all := lw_g (lw_at lw_m10 90 rfl) rfl
theorem q2376 : (Jvm.Cond.soleField "AskedNamesModel" "askedAt") ∈ lw_all := lw_g (lw_at lw_m10 91 rfl) rfl
theorem q2377 : (Jvm.Cond.laysFinal "AskedNamesModel" "AskedNamesModel" "cameFrom" "[I") ∈ lw_all := lw_g (lw_at lw_m10 92 rfl) rfl
theorem q2378 : (Jvm.Cond.soleField "AskedNamesModel" "cameFrom") ∈ lw_all := lw_g (lw_at lw_m10 93 rfl) rfl
theorem q2379 : (Jvm.Cond.laysFinal "AskedNamesModel" "AskedNamesModel" "cameStore" "[I") ∈ lw_all := lw_g (lw_at lw_m10 94 rfl) rfl
theorem q2380 : (Jvm.Cond.soleField "AskedNamesModel" "cameStore") ∈ lw_all := lw_g (lw_at lw_m10 95 rfl) rfl
theorem q2381 : (Jvm.Cond.laysFinal "AskedNamesModel" "AskedNamesModel" "cameDepth" "[I") ∈ lw_all := lw_g (lw_at lw_m10 96 rfl) rfl
theorem q2382 : (Jvm.Cond.soleField "AskedNamesModel" "cameDepth") ∈ lw_all := lw_g (lw_at lw_m10 97 rfl) rfl
theorem q2383 : (Jvm.Cond.laysFinal "AskedNamesModel" "AskedNamesModel" "cameRoot" "[I") ∈ lw_all := lw_g (lw_at lw_m10 98 rfl) rfl
theorem q2384 : (Jvm.Cond.soleField "AskedNamesModel" "cameRoot") ∈ lw_all := lw_g (lw_at lw_m10 99 rfl) rfl
theorem q2385 : (Jvm.Cond.laysFinal "AskedNamesModel" "AskedNamesModel" "cameWhere" "[I") ∈ lw_all := lw_g (lw_at lw_m10 100 rfl) rfl
theorem q2386 : (Jvm.Cond.soleField "AskedNamesModel" "cameWhere") ∈ lw_all := lw_g (lw_at lw_m10 101 rfl) rfl
theorem q2387 : (Jvm.Cond.lays "AskedNamesModel" "AskedNamesModel" "sent" "I") ∈ lw_all := lw_g (lw_at lw_m10 102 rfl) rfl
theorem q2388 : (Jvm.Cond.soleField "AskedNamesModel" "sent") ∈ lw_all := lw_g (lw_at lw_m10 103 rfl) rfl
theorem q2389 : (Jvm.Cond.lays "AskedNamesModel" "AskedNamesModel" "hits" "I") ∈ lw_all := lw_g (lw_at lw_m10 104 rfl) rfl
theorem q2390 : (Jvm.Cond.soleField "AskedNamesModel" "hits") ∈ lw_all := lw_g (lw_at lw_m10 105 rfl) rfl
theorem q2391 : (Jvm.Cond.lays "AskedNamesModel" "AskedNamesModel" "joined" "I") ∈ lw_all := lw_g (lw_at lw_m10 106 rfl) rfl
theorem q2392 : (Jvm.Cond.soleField "AskedNamesModel" "joined") ∈ lw_all := lw_g (lw_at lw_m10 107 rfl) rfl
theorem q2393 : (Jvm.Cond.lays "AskedNamesModel" "AskedNamesModel" "loops" "I") ∈ lw_all := lw_g (lw_at lw_m10 108 rfl) rfl
theorem q2394 : (Jvm.Cond.soleField "AskedNamesModel" "loops") ∈ lw_all := lw_g (lw_at lw_m10 109 rfl) rfl
theorem q2395 : (Jvm.Cond.lays "AskedNamesModel" "AskedNamesModel" "dropped" "I") ∈ lw_all := lw_g (lw_at lw_m10 110 rfl) rfl
theorem q2396 : (Jvm.Cond.soleField "AskedNamesModel" "dropped") ∈ lw_all := lw_g (lw_at lw_m10 111 rfl) rfl
theorem q2397 : (Jvm.Cond.lays "AskedNamesModel" "AskedNamesModel" "missed" "I") ∈ lw_all := lw_g (lw_at lw_m10 112 rfl) rfl
theorem q2398 : (Jvm.Cond.soleField "AskedNamesModel" "missed") ∈ lw_all := lw_g (lw_at lw_m10 113 rfl) rfl
theorem q2399 : (Jvm.Cond.lays "AskedNamesModel" "AskedNamesModel" "a" "I") ∈ lw_all := lw_g (lw_at lw_m10 114 rfl) rfl
theorem q2400 : (Jvm.Cond.soleField "AskedNamesModel" "a") ∈ lw_all := lw_g (lw_at lw_m10 115 rfl) rfl
theorem q2401 : (Jvm.Cond.lays "AskedNamesModel" "AskedNamesModel" "b" "I") ∈ lw_all := lw_g (lw_at lw_m10 116 rfl) rfl
theorem q2402 : (Jvm.Cond.soleField "AskedNamesModel" "b") ∈ lw_all := lw_g (lw_at lw_m10 117 rfl) rfl
theorem q2403 : (Jvm.Cond.lays "AskedNamesModel" "AskedNamesModel" "c" "I") ∈ lw_all := lw_g (lw_at lw_m10 118 rfl) rfl
theorem q2404 : (Jvm.Cond.soleField "AskedNamesModel" "c") ∈ lw_all := lw_g (lw_at lw_m10 119 rfl) rfl
theorem q2405 : (Jvm.Cond.lays "AskedNamesModel" "AskedNamesModel" "d" "I") ∈ lw_all := lw_g (lw_at lw_m10 120 rfl) rfl
theorem q2406 : (Jvm.Cond.soleField "AskedNamesModel" "d") ∈ lw_all := lw_g (lw_at lw_m10 121 rfl) rfl
theorem q2407 : (Jvm.Cond.lays "AskedNamesModel" "AskedNamesModel" "run" "I") ∈ lw_all := lw_g (lw_at lw_m10 122 rfl) rfl
theorem q2408 : (Jvm.Cond.soleField "AskedNamesModel" "run") ∈ lw_all := lw_g (lw_at lw_m10 123 rfl) rfl
theorem q2409 : (Jvm.Cond.lays "AskedNamesModel" "AskedNamesModel" "widest" "I") ∈ lw_all := lw_g (lw_at lw_m10 124 rfl) rfl
theorem q2410 : (Jvm.Cond.soleField "AskedNamesModel" "widest") ∈ lw_all := lw_g (lw_at lw_m10 125 rfl) rfl
theorem q2411 : (Jvm.Cond.laysFinal "AskedNamesModel" "AskedNamesModel" "parts" "[I") ∈ lw_all := lw_g (lw_at lw_m10 126 rfl) rfl
theorem q2412 : (Jvm.Cond.soleField "AskedNamesModel" "parts") ∈ lw_all := lw_g (lw_at lw_m10 127 rfl) rfl
theorem q2413 : (Jvm.Cond.laysFinal "AskedNamesModel" "AskedNamesModel" "walked" "[I") ∈ lw_all := lw_g (lw_at lw_m10 128 rfl) rfl
theorem q2414 : (Jvm.Cond.soleField "AskedNamesModel" "walked") ∈ lw_all := lw_g (lw_at lw_m10 129 rfl) rfl
theorem q2415 : (Jvm.Cond.lays "AskedNamesModel" "AskedNamesModel" "walkedMany" "I") ∈ lw_all := lw_g (lw_at lw_m10 130 rfl) rfl
theorem q2416 : (Jvm.Cond.soleField "AskedNamesModel" "walkedMany") ∈ lw_all := lw_g (lw_at lw_m10 131 rfl) rfl
theorem q2417 : (Jvm.Cond.laysFinal "AskedNamesModel" "AskedNamesModel" "least" "[I") ∈ lw_all := lw_g (lw_at lw_m10 132 rfl) rfl
theorem q2418 : (Jvm.Cond.soleField "AskedNamesModel" "least") ∈ lw_all := lw_g (lw_at lw_m10 133 rfl) rfl
theorem q2419 : (Jvm.Cond.lays "AskedNamesModel" "AskedNamesModel" "log" "I") ∈ lw_all := lw_g (lw_at lw_m10 134 rfl) rfl
theorem q2420 : (Jvm.Cond.soleField "AskedNamesModel" "log") ∈ lw_all := lw_g (lw_at lw_m10 135 rfl) rfl
theorem q2421 : (Jvm.Cond.lays "AskedNamesModel" "AskedNamesModel" "found" "I") ∈ lw_all := lw_g (lw_at lw_m10 136 rfl) rfl
theorem q2422 : (Jvm.Cond.soleField "AskedNamesModel" "found") ∈ lw_all := lw_g (lw_at lw_m10 137 rfl) rfl
theorem q2423 : (Jvm.Cond.lays "AskedNamesModel" "AskedNamesModel" "asked" "I") ∈ lw_all := lw_g (lw_at lw_m10 138 rfl) rfl
theorem q2424 : (Jvm.Cond.soleField "AskedNamesModel" "asked") ∈ lw_all := lw_g (lw_at lw_m10 139 rfl) rfl
theorem q2425 : (Jvm.Cond.laysFinal "AskedNamesModel" "AskedNamesModel" "seen" "[I") ∈ lw_all := lw_g (lw_at lw_m10 140 rfl) rfl
theorem q2426 : (Jvm.Cond.soleField "AskedNamesModel" "seen") ∈ lw_all := lw_g (lw_at lw_m10 141 rfl) rfl
theorem q2427 : (Jvm.Cond.lays "AskedNamesModel" "AskedNamesModel" "seed" "I") ∈ lw_all := lw_g (lw_at lw_m10 142 rfl) rfl
theorem q2428 : (Jvm.Cond.soleField "AskedNamesModel" "seed") ∈ lw_all := lw_g (lw_at lw_m10 143 rfl) rfl
theorem q2429 : (Jvm.Cond.laysFinal "AskedNamesModel" "AskedNamesModel" "saved" "[Z") ∈ lw_all := lw_g (lw_at lw_m10 144 rfl) rfl
theorem q2430 : (Jvm.Cond.soleField "AskedNamesModel" "saved") ∈ lw_all := lw_g (lw_at lw_m10 145 rfl) rfl
theorem q2431 : (Jvm.Cond.superclass "AskedNamesModel" "java/lang/Object") ∈ lw_all := lw_g (lw_at lw_m10 146 rfl) rfl
theorem q2434 : (Jvm.Cond.instanceMethod ({ cls := "AskedNamesModel", name := "feed", desc := "(IIIII)I" } : Jvm.MethodName)) ∈ lw_all := lw_g (lw_at lw_m10 149 rfl) rfl
theorem q2435 : (Jvm.Cond.selects "AskedNamesModel" ({ cls := "AskedNamesModel", name := "feed", desc := "(IIIII)I" } : Jvm.MethodName) ({ cls := "AskedNamesModel", name := "feed", desc := "(IIIII)I" } : Jvm.MethodName)) ∈ lw_all := lw_g (lw_at lw_m10 150 rfl) rfl
theorem q2436 : (Jvm.Cond.code ({ cls := "AskedNamesModel", name := "feed", desc := "(IIIII)I" } : Jvm.MethodName) prog_25_method_11_code (6 : Nat) (Option.some Jvm.ClassFile.FieldType.int)) ∈ lw_all := lw_g (lw_at lw_m10 151 rfl) rfl
theorem q2437 : (Jvm.Cond.methodLink "AskedNamesModel" (185 : Nat) ({ cls := "AskedNamesModel", name := "four", desc := "(I)V" } : Jvm.MethodName)) ∈ lw_all := lw_g (lw_at lw_m10 152 rfl) rfl
theorem q2438 : (Jvm.Cond.privateMethod ({ cls := "AskedNamesModel", name := "four", desc := "(I)V" } : Jvm.MethodName)) ∈ lw_tbl := lw_at lw_m10 153 rfl
theorem q2439 : (Jvm.Cond.instanceMethod ({ cls := "AskedNamesModel", name := "four", desc := "(I)V" } : Jvm.MethodName)) ∈ lw_all := lw_g (lw_at lw_m10 154 rfl) rfl
theorem q2440 : (Jvm.Cond.code ({ cls := "AskedNamesModel", name := "four", desc := "(I)V" } : Jvm.MethodName) prog_25_method_12_code (3 : Nat) (Option.none : Option Jvm.ClassFile.FieldType)) ∈ lw_all := lw_g (lw_at lw_m10 155 rfl) rfl
theorem q2442 : (Jvm.Cond.instanceMethod ({ cls := "AskedNamesModel", name := "end", desc := "(I)I" } : Jvm.MethodName)) ∈ lw_all := lw_g (lw_at lw_m10 157 rfl) rfl
theorem q2443 : (Jvm.Cond.selects "AskedNamesModel" ({ cls := "AskedNamesModel", name := "end", desc := "(I)I" } : Jvm.MethodName) ({ cls := "AskedNamesModel", name := "end", desc := "(I)I" } : Jvm.MethodName)) ∈ lw_all := lw_g (lw_at lw_m10 158 rfl) rfl
theorem q2444 : (Jvm.Cond.code ({ cls := "AskedNamesModel", name := "end", desc := "(I)I" } : Jvm.MethodName) prog_25_method_13_code (2 : Nat) (Option.some Jvm.ClassFile.FieldType.int)) ∈ lw_all := lw_g (lw_at lw_m10 159 rfl) rfl
theorem q2445 : (Jvm.Cond.methodLink "AskedNamesModel" (181 : Nat) ({ cls := "AskedNamesModel", name := "in", desc := "(III)Z" } : Jvm.MethodName)) ∈ lw_all := lw_g (lw_at lw_m10 160 rfl) rfl
theorem q2446 : (Jvm.Cond.static ({ cls := "AskedNamesModel", name := "in", desc := "(III)Z" } : Jvm.MethodName)) ∈ lw_all := lw_g (lw_at lw_m10 161 rfl) rfl
theorem q2447 : (Jvm.Cond.code ({ cls := "AskedNamesModel", name := "in", desc := "(III)Z" } : Jvm.MethodName) prog_25_method_3_code (3 : Nat) (Option.some Jvm.ClassFile.FieldType.boolean)) ∈ lw_all := lw_g (lw_at lw_m10 162 rfl) rfl
theorem q2449 : (Jvm.Cond.instanceMethod ({ cls := "AskedNamesModel", name := "text", desc := "(II)I" } : Jvm.MethodName)) ∈ lw_all := lw_g (lw_at lw_m10 164 rfl) rfl
theorem q2450 : (Jvm.Cond.selects "AskedNamesModel" ({ cls := "AskedNamesModel", name := "text", desc := "(II)I" } : Jvm.MethodName) ({ cls := "AskedNamesModel", name := "text", desc := "(II)I" } : Jvm.MethodName)) ∈ lw_all := lw_g (lw_at lw_m10 165 rfl) rfl
theorem q2451 : (Jvm.Cond.code ({ cls := "AskedNamesModel", name := "text", desc := "(II)I" } : Jvm.MethodName) prog_25_method_34_code (4 : Nat) (Option.some Jvm.ClassFile.FieldType.int)) ∈ lw_all := lw_g (lw_at lw_m10 166 rfl) rfl
theorem q2452 : (Jvm.Cond.methodLink "AskedNamesModel" (322 : Nat) ({ cls := "AskedNamesModel", name := "is", desc := "(II)Z" } : Jvm.MethodName)) ∈ lw_all := lw_g (lw_at lw_m10 167 rfl) rfl
theorem q2453 : (Jvm.Cond.privateMethod ({ cls := "AskedNamesModel", name := "is", desc := "(II)Z" } : Jvm.MethodName)) ∈ lw_tbl := lw_at lw_m10 168 rfl
theorem q2454 : (Jvm.Cond.instanceMethod ({ cls := "AskedNamesModel", name := "is", desc := "(II)Z" } : Jvm.MethodName)) ∈ lw_all := lw_g (lw_at lw_m10 169 rfl) rfl
theorem q2455 : (Jvm.Cond.code ({ cls := "AskedNamesModel", name := "is", desc := "(II)Z" } : Jvm.MethodName) prog_25_method_10_code (3 : Nat) (Option.some Jvm.ClassFile.FieldType.boolean)) ∈ lw_all := lw_g (lw_at lw_m10 170 rfl) rfl
theorem q2456 : (Jvm.Cond.methodLink "AskedNamesModel" (325 : Nat) ({ cls := "AskedNamesModel", name := "readText", desc := "(I)Z" } : Jvm.MethodName)) ∈ lw_all := lw_g (lw_at lw_m10 171 rfl) rfl
theorem q2457 : (Jvm.Cond.privateMethod ({ cls := "AskedNamesModel", name := "readText", desc := "(I)Z" } : Jvm.MethodName)) ∈ lw_tbl := lw_at lw_m10 172 rfl
theorem q2458 : (Jvm.Cond.instanceMethod ({ cls := "AskedNamesModel", name := "readText", desc := "(I)Z" } : Jvm.MethodName)) ∈ lw_all := lw_g (lw_at lw_m10 173 rfl) rfl
theorem q2459 : (Jvm.Cond.code ({ cls := "AskedNamesModel", name := "readText", desc := "(I)Z" } : Jvm.MethodName) prog_25_method_32_code (3 : Nat) (Option.some Jvm.ClassFile.FieldType.boolean)) ∈ lw_all := lw_g (lw_at lw_m10 174 rfl) rfl
theorem q2460 : (Jvm.Cond.methodLink "AskedNamesModel" (233 : Nat) ({ cls := "AskedNamesModel", name := "token", desc := "()V" } : Jvm.MethodName)) ∈ lw_all := lw_g (lw_at lw_m10 175 rfl) rfl
theorem q2461 : (Jvm.Cond.privateMethod ({ cls := "AskedNamesModel", name := "token", desc := "()V" } : Jvm.MethodName)) ∈ lw_tbl := lw_at lw_m10 176 rfl
theorem q2462 : (Jvm.Cond.instanceMethod ({ cls := "AskedNamesModel", name := "token", desc := "()V" } : Jvm.MethodName)) ∈ lw_all := lw_g (lw_at lw_m10 177 rfl) rfl
theorem q2463 : (Jvm.Cond.code ({ cls := "AskedNamesModel", name := "token", desc := "()V" } : Jvm.MethodName) prog_25_method_15_code (3 : Nat) (Option.none : Option Jvm.ClassFile.FieldType)) ∈ lw_all := lw_g (lw_at lw_m10 178 rfl) rfl
theorem q2464 : (Jvm.Cond.methodLink "AskedNamesModel" (195 : Nat) ({ cls := "AskedNamesModel", name := "see", desc := "()I" } : Jvm.MethodName)) ∈ lw_all := lw_g (lw_at lw_m10 179 rfl) rfl
theorem q2465 : (Jvm.Cond.privateMethod ({ cls := "AskedNamesModel", name := "see", desc := "()I" } : Jvm.MethodName)) ∈ lw_tbl := lw_at lw_m10 180 rfl
theorem q2466 : (Jvm.Cond.instanceMethod ({ cls := "AskedNamesModel", name := "see", desc := "()I" } : Jvm.MethodName)) ∈ lw_all := lw_g (lw_at lw_m10 181 rfl) rfl
theorem q2467 : (Jvm.Cond.code ({ cls := "AskedNamesModel", name := "see", desc := "()I" } : Jvm.MethodName) prog_25_method_14_code (1 : Nat) (Option.some Jvm.ClassFile.FieldType.int)) ∈ lw_all := lw_g (lw_at lw_m10 182 rfl) rfl
theorem q2468 : (Jvm.Cond.methodLink "AskedNamesModel" (319 : Nat) ({ cls := "AskedNamesModel", name := "allLines", desc := "(I)Z" } : Jvm.MethodName)) ∈ lw_all := lw_g (lw_at lw_m10 183 rfl) rfl
theorem q2469 : (Jvm.Cond.privateMethod ({ cls := "AskedNamesModel", name := "allLines", desc := "(I)Z" } : Jvm.MethodName)) ∈ lw_tbl := lw_at lw_m10 184 rfl
theorem q2470 : (Jvm.Cond.instanceMethod ({ cls := "AskedNamesModel", name := "allLines", desc := "(I)Z" } : Jvm.MethodName)) ∈ lw_all := lw_g (lw_at lw_m10 185 rfl) rfl
theorem q2471 : (Jvm.Cond.code ({ cls := "AskedNamesModel", name := "allLines", desc := "(I)Z" } : Jvm.MethodName) prog_25_method_31_code (6 : Nat) (Option.some Jvm.ClassFile.FieldType.boolean)) ∈ lw_all := lw_g (lw_at lw_m10 186 rfl) rfl
theorem q2472 : (Jvm.Cond.methodLink "AskedNamesModel" (309 : Nat) ({ cls := "AskedNamesModel", name := "netLine", desc := "(JI)Z" } : Jvm.MethodName)) ∈ lw_all := lw_g (lw_at lw_m10 187 rfl) rfl
theorem q2473 : (Jvm.Cond.privateMethod ({ cls := "AskedNamesModel", name := "netLine", desc := "(JI)Z" } : Jvm.MethodName)) ∈ lw_tbl := lw_at lw_m10 188 rfl
theorem q2474 : (Jvm.Cond.instanceMethod ({ cls := "AskedNamesModel", name := "netLine", desc := "(JI)Z" } : Jvm.MethodName)) ∈ lw_all := lw_g (lw_at lw_m10 189 rfl) rfl
theorem q2475 : (Jvm.Cond.code ({ cls := "AskedNamesModel", name := "netLine", desc := "(JI)Z" } : Jvm.MethodName) prog_25_method_27_code (5 : Nat) (Option.some Jvm.ClassFile.FieldType.boolean)) ∈ lw_all := lw_g (lw_at lw_m10 190 rfl) rfl
theorem q2476 : (Jvm.Cond.constantLong "AskedNamesModel" (263 : Nat) (474315253107 : Int64)) ∈ lw_all := lw_g (lw_at lw_m10 191 rfl) rfl
theorem q2477 : (Jvm.Cond.constantLong "AskedNamesModel" (265 : Nat) (1818846821 : Int64)) ∈ lw_all := lw_g (lw_at lw_m10 192 rfl) rfl
theorem q2478 : (Jvm.Cond.methodLink "AskedNamesModel" (267 : Nat) ({ cls := "AskedNamesModel", name := "take", desc := "(III)Z" } : Jvm.MethodName)) ∈ lw_all := lw_g (lw_at lw_m10 193 rfl) rfl
theorem q2479 : (Jvm.Cond.privateMethod ({ cls := "AskedNamesModel", name := "take", desc := "(III)Z" } : Jvm.MethodName)) ∈ lw_tbl := lw_at lw_m10 194 rfl
theorem q2480 : (Jvm.Cond.instanceMethod ({ cls := "AskedNamesModel", name := "take", desc := "(III)Z" } : Jvm.MethodName)) ∈ lw_all := lw_g (lw_at lw_m10 195 rfl) rfl
theorem q2481 : (Jvm.Cond.code ({ cls := "AskedNamesModel", name := "take", desc := "(III)Z" } : Jvm.MethodName) prog_25_method_19_code (4 : Nat) (Option.some Jvm.ClassFile.FieldType.boolean)) ∈ lw_all := lw_g (lw_at lw_m10 196 rfl) rfl
theorem q2482 : (Jvm.Cond.methodLink "AskedNamesModel" (236 : Nat) ({ cls := "AskedNamesModel", name := "takeBut", desc := "(IIII)Z" } : Jvm.MethodName)) ∈ lw_all := lw_g (lw_at lw_m10 197 rfl) rfl
theorem q2483 : (Jvm.Cond.privateMethod ({ cls := "AskedNamesModel", name := "takeBut", desc := "(IIII)Z" } : Jvm.MethodName)) ∈ lw_tbl := lw_at lw_m10 198 rfl
theorem q2484 : (Jvm.Cond.instanceMethod ({ cls := "AskedNamesModel", name := "takeBut", desc := "(IIII)Z" } : Jvm.MethodName)) ∈ lw_all := lw_g (lw_at lw_m10 199 rfl) rfl
theorem q2485 : (Jvm.Cond.code ({ cls := "AskedNamesModel", name := "takeBut", desc := "(IIII)Z" } : Jvm.MethodName) prog_25_method_18_code (5 : Nat) (Option.some Jvm.ClassFile.FieldType.boolean)) ∈ lw_all := lw_g (lw_at lw_m10 200 rfl) rfl
theorem q2486 : (Jvm.Cond.methodLink "AskedNamesModel" (221 : Nat) ({ cls := "AskedNamesModel", name := "fails", desc := "()Z" } : Jvm.MethodName)) ∈ lw_all := lw_g (lw_at lw_m10 201 rfl) rfl
theorem q2487 : (Jvm.Cond.privateMethod ({ cls := "AskedNamesModel", name := "fails", desc := "()Z" } : Jvm.MethodName)) ∈ lw_tbl := lw_at lw_m10 202 rfl
theorem q2488 : (Jvm.Cond.instanceMethod ({ cls := "AskedNamesModel", name := "fails", desc := "()Z" } : Jvm.MethodName)) ∈ lw_all := lw_g (lw_at lw_m10 203 rfl) rfl
theorem q2489 : (Jvm.Cond.code ({ cls := "AskedNamesModel", name := "fails", desc := "()Z" } : Jvm.MethodName) prog_25_method_16_code (1 : Nat) (Option.some Jvm.ClassFile.FieldType.boolean)) ∈ lw_all := lw_g (lw_at lw_m10 204 rfl) rfl
theorem q2490 : (Jvm.Cond.methodLink "AskedNamesModel" (225 : Nat) ({ cls := "AskedNamesModel", name := "addsFault", desc := "(II)V" } : Jvm.MethodName)) ∈ lw_all := lw_g (lw_at lw_m10 205 rfl) rfl
theorem q2491 : (Jvm.Cond.privateMethod ({ cls := "AskedNamesModel", name := "addsFault", desc := "(II)V" } : Jvm.MethodName)) ∈ lw_tbl := lw_at lw_m10 206 rfl
theorem q2492 : (Jvm.Cond.instanceMethod ({ cls := "AskedNamesModel", name := "addsFault", desc := "(II)V" } : Jvm.MethodName)) ∈ lw_all := lw_g (lw_at lw_m10 207 rfl) rfl
theorem q2493 : (Jvm.Cond.code ({ cls := "AskedNamesModel", name := "addsFault", desc := "(II)V" } : Jvm.MethodName) prog_25_method_17_code (3 : Nat) (Option.none : Option Jvm.ClassFile.FieldType)) ∈ lw_all := lw_g (lw_at lw_m10 208 rfl) rfl
theorem q2494 : (Jvm.Cond.constantLong "AskedNamesModel" (270 : Nat) (1919905645 : Int64)) ∈ lw_all := lw_g (lw_at lw_m10 209 rfl) rfl
theorem q2495 : (Jvm.Cond.methodLink "AskedNamesModel" (272 : Nat) ({ cls := "AskedNamesModel", name := "takeNode", desc := "(II)Z" } : Jvm.MethodName)) ∈ lw_all := lw_g (lw_at lw_m10 210 rfl) rfl
theorem q2496 : (Jvm.Cond.privateMethod ({ cls := "AskedNamesModel", name := "takeNode", desc := "(II)Z" } : Jvm.MethodName)) ∈ lw_tbl := lw_at lw_m10 211 rfl
theorem q2497 : (Jvm.Cond.instanceMethod ({ cls := "AskedNamesModel", name := "takeNode", desc := "(II)Z" } : Jvm.MethodName)) ∈ lw_all := lw_g (lw_at lw_m10 212 rfl) rfl
theorem q2498 : (Jvm.Cond.code ({ cls := "AskedNamesModel", name := "takeNode", desc := "(II)Z" } : Jvm.MethodName) prog_25_method_20_code (3 : Nat) (Option.some Jvm.ClassFile.FieldType.boolean)) ∈ lw_all := lw_g (lw_at lw_m10 213 rfl) rfl
theorem q2499 : (Jvm.Cond.methodLink "AskedNamesModel" (243 : Nat) ({ cls := "AskedNamesModel", name := "greater", desc := "(II)I" } : Jvm.MethodName)) ∈ lw_all := lw_g (lw_at lw_m10 214 rfl) rfl
theorem q2500 : (Jvm.Cond.static ({ cls := "AskedNamesModel", name := "greater", desc := "(II)I" } : Jvm.MethodName)) ∈ lw_all := lw_g (lw_at lw_m10 215 rfl) rfl
theorem q2501 : (Jvm.Cond.code ({ cls := "AskedNamesModel", name := "greater", desc := "(II)I" } : Jvm.MethodName) prog_25_method_5_code (2 : Nat) (Option.some Jvm.ClassFile.FieldType.int)) ∈ lw_all := lw_g (lw_at lw_m10 216 rfl) rfl
theorem q2502 : (Jvm.Cond.constantLong "AskedNamesModel" (275 : Nat) (1818848875 : Int64)) ∈ lw_all := lw_g (lw_at lw_m10 217 rfl) rfl
theorem q2503 : (Jvm.Cond.methodLink "AskedNamesModel" (277 : Nat) ({ cls := "AskedNamesModel", name := "keepLink", desc := "()V" } : Jvm.MethodName)) ∈ lw_all := lw_g (lw_at lw_m10 218 rfl) rfl
theorem q2504 : (Jvm.Cond.privateMethod ({ cls := "AskedNamesModel", name := "keepLink", desc := "()V" } : Jvm.MethodName)) ∈ lw_tbl := lw_at lw_m10 219 rfl
theorem q2505 : (Jvm.Cond.instanceMethod ({ cls := "AskedNamesModel", name := "keepLink", desc := "()V" } : Jvm.MethodName)) ∈ lw_all := lw_g (lw_at lw_m10 220 rfl) rfl
theorem q2506 : (Jvm.Cond.code ({ cls := "AskedNamesModel", name := "keepLink", desc := "()V" } : Jvm.MethodName) prog_25_method_25_code (2 : Nat) (Option.none : Option Jvm.ClassFile.FieldType)) ∈ lw_all := lw_g (lw_at lw_m10 221 rfl) rfl
theorem q2507 : (Jvm.Cond.methodLink "AskedNamesModel" (256 : Nat) ({ cls := "AskedNamesModel", name := "isOf", desc := "(II)Z" } : Jvm.MethodName)) ∈ lw_all := lw_g (lw_at lw_m10 222 rfl) rfl
theorem q2508 : (Jvm.Cond.privateMethod ({ cls := "AskedNamesModel", name := "isOf", desc := "(II)Z" } : Jvm.MethodName)) ∈ lw_tbl := lw_at lw_m10 223 rfl
theorem q2509 : (Jvm.Cond.instanceMethod ({ cls := "AskedNamesModel", name := "isOf", desc := "(II)Z" } : Jvm.MethodName)) ∈ lw_all := lw_g (lw_at lw_m10 224 rfl) rfl
theorem q2510 : (Jvm.Cond.code ({ cls := "AskedNamesModel", name := "isOf", desc := "(II)Z" } : Jvm.MethodName) prog_25_method_26_code (3 : Nat) (Option.some Jvm.ClassFile.FieldType.boolean)) ∈ lw_all := lw_g (lw_at lw_m10 225 rfl) rfl
theorem q2511 : (Jvm.Cond.methodLink "AskedNamesModel" (259 : Nat) ({ cls := "AskedNamesModel", name := "keepRow", desc := "(IIII)V" } : Jvm.MethodName)) ∈ lw_all := lw_g (lw_at lw_m10 226 rfl) rfl
theorem q2512 : (Jvm.Cond.privateMethod ({ cls := "AskedNamesModel", name := "keepRow", desc := "(IIII)V" } : Jvm.MethodName)) ∈ lw_tbl := lw_at lw_m10 227 rfl
theorem q2513 : (Jvm.Cond.instanceMethod ({ cls := "AskedNamesModel", name := "keepRow", desc := "(IIII)V" } : Jvm.MethodName)) ∈ lw_all := lw_g (lw_at lw_m10 228 rfl) rfl
theorem q2514 : (Jvm.Cond.code ({ cls := "AskedNamesModel", name := "keepRow", desc := "(IIII)V" } : Jvm.MethodName) prog_25_method_24_code (7 : Nat) (Option.none : Option Jvm.ClassFile.FieldType)) ∈ lw_all := lw_g (lw_at lw_m10 229 rfl) rfl
theorem q2515 : (Jvm.Cond.methodLink "AskedNamesModel" (253 : Nat) ({ cls := "AskedNamesModel", name := "lesser", desc := "(II)I" } : Jvm.MethodName)) ∈ lw_all := lw_g (lw_at lw_m10 230 rfl) rfl
theorem q2516 : (Jvm.Cond.static ({ cls := "AskedNamesModel", name := "lesser", desc := "(II)I" } : Jvm.MethodName)) ∈ lw_all := lw_g (lw_at lw_m10 231 rfl) rfl
theorem q2517 : (Jvm.Cond.code ({ cls := "AskedNamesModel", name := "lesser", desc := "(II)I" } : Jvm.MethodName) prog_25_method_6_code (2 : Nat) (Option.some Jvm.ClassFile.FieldType.int)) ∈ lw_all := lw_g (lw_at lw_m10 232 rfl) rfl
theorem q2518 : (Jvm.Cond.constantLong "AskedNamesModel" (280 : Nat) (491496240229 : Int64)) ∈ lw_all := lw_g (lw_at lw_m10 233 rfl) rfl
theorem q2519 : (Jvm.Cond.constantLong "AskedNamesModel" (282 : Nat) (495623239269 : Int64)) ∈ lw_all := lw_g (lw_at lw_m10 234 rfl) rfl
theorem q2520 : (Jvm.Cond.methodLink "AskedNamesModel" (284 : Nat) ({ cls := "AskedNamesModel", name := "full", desc := "(III)V" } : Jvm.MethodName)) ∈ lw_all := lw_g (lw_at lw_m10 235 rfl) rfl
theorem q2521 : (Jvm.Cond.privateMethod ({ cls := "AskedNamesModel", name := "full", desc := "(III)V" } : Jvm.MethodName)) ∈ lw_tbl := lw_at lw_m10 236 rfl
theorem q2522 : (Jvm.Cond.instanceMethod ({ cls := "AskedNamesModel", name := "full", desc := "(III)V" } : Jvm.MethodName)) ∈ lw_all := lw_g (lw_at lw_m10 237 rfl) rfl
theorem q2523 : (Jvm.Cond.code ({ cls := "AskedNamesModel", name := "full", desc := "(III)V" } : Jvm.MethodName) prog_25_method_23_code (4 : Nat) (Option.none : Option Jvm.ClassFile.FieldType)) ∈ lw_all := lw_g (lw_at lw_m10 238 rfl) rfl
theorem q2524 : (Jvm.Cond.methodLink "AskedNamesModel" (288 : Nat) ({ cls := "AskedNamesModel", name := "takeName", desc := "(I)Z" } : Jvm.MethodName)) ∈ lw_all := lw_g (lw_at lw_m10 239 rfl) rfl
theorem q2525 : (Jvm.Cond.privateMethod ({ cls := "AskedNamesModel", name := "takeName", desc := "(I)Z" } : Jvm.MethodName)) ∈ lw_tbl := lw_at lw_m11 0 rfl
theorem q2526 : (Jvm.Cond.instanceMethod ({ cls := "AskedNamesModel", name := "takeName", desc := "(I)Z" } : Jvm.MethodName)) ∈ lw_all := lw_g (lw_at lw_m11 1 rfl) rfl
theorem q2527 : (Jvm.Cond.code ({ cls := "AskedNamesModel", name := "takeName", desc := "(I)Z" } : Jvm.MethodName) prog_25_method_22_code (2 : Nat) (Option.some Jvm.ClassFile.FieldType.boolean)) ∈ lw_all := lw_g (lw_at lw_m11 2 rfl) rfl
theorem q2528 : (Jvm.Cond.methodLink "AskedNamesModel" (249 : Nat) ({ cls := "AskedNamesModel", name := "numberOf", desc := "(J)I" } : Jvm.MethodName)) ∈ lw_all := lw_g (lw_at lw_m11 3 rfl) rfl
theorem q2529 : (Jvm.Cond.static ({ cls := "AskedNamesModel", name := "numberOf", desc := "(J)I" } : Jvm.MethodName)) ∈ lw_all := lw_g (lw_at lw_m11 4 rfl) rfl
theorem q2530 : (Jvm.Cond.code ({ cls := "AskedNamesModel", name := "numberOf", desc := "(J)I" } : Jvm.MethodName) prog_25_method_21_code (5 : Nat) (Option.some Jvm.ClassFile.FieldType.int)) ∈ lw_all := lw_g (lw_at lw_m11 5 rfl) rfl
theorem q2531 : (Jvm.Cond.constantLong "AskedNamesModel" (247 : Nat) (255 : Int64)) ∈ lw_all := lw_g (lw_at lw_m11 6 rfl) rfl
theorem q2532 : (Jvm.Cond.methodLink "AskedNamesModel" (313 : Nat) ({ cls := "AskedNamesModel", name := "runLine", desc := "(JI)Z" } : Jvm.MethodName)) ∈ lw_all := lw_g (lw_at lw_m11 7 rfl) rfl
theorem q2533 : (Jvm.Cond.privateMethod ({ cls := "AskedNamesModel", name := "runLine", desc := "(JI)Z" } : Jvm.MethodName)) ∈ lw_tbl := lw_at lw_m11 8 rfl
theorem q2534 : (Jvm.Cond.instanceMethod ({ cls := "AskedNamesModel", name := "runLine", desc := "(JI)Z" } : Jvm.MethodName)) ∈ lw_all := lw_g (lw_at lw_m11 9 rfl) rfl
theorem q2535 : (Jvm.Cond.code ({ cls := "AskedNamesModel", name := "runLine", desc := "(JI)Z" } : Jvm.MethodName) prog_25_method_29_code (5 : Nat) (Option.some Jvm.ClassFile.FieldType.boolean)) ∈ lw_all := lw_g (lw_at lw_m11 10 rfl) rfl
theorem q2536 : (Jvm.Cond.methodLink "AskedNamesModel" (302 : Nat) ({ cls := "AskedNamesModel", name := "deedBy", desc := "(J)I" } : Jvm.MethodName)) ∈ lw_all := lw_g (lw_at lw_m11 11 rfl) rfl
theorem q2537 : (Jvm.Cond.privateMethod ({ cls := "AskedNamesModel", name := "deedBy", desc := "(J)I" } : Jvm.MethodName)) ∈ lw_tbl := lw_at lw_m11 12 rfl
theorem q2538 : (Jvm.Cond.instanceMethod ({ cls := "AskedNamesModel", name := "deedBy", desc := "(J)I" } : Jvm.MethodName)) ∈ lw_all := lw_g (lw_at lw_m11 13 rfl) rfl
theorem q2539 : (Jvm.Cond.code ({ cls := "AskedNamesModel", name := "deedBy", desc := "(J)I" } : Jvm.MethodName) prog_25_method_28_code (3 : Nat) (Option.some Jvm.ClassFile.FieldType.int)) ∈ lw_all := lw_g (lw_at lw_m11 14 rfl) rfl
theorem q2540 : (Jvm.Cond.constantLong "AskedNamesModel" (292 : Nat) (6386539 : Int64)) ∈ lw_all := lw_g (lw_at lw_m11 15 rfl) rfl
theorem q2541 : (Jvm.Cond.constantLong "AskedNamesModel" (294 : Nat) (440005915496 : Int64)) ∈ lw_all := lw_g (lw_at lw_m11 16 rfl) rfl
theorem q2542 : (Jvm.Cond.constantLong "AskedNamesModel" (296 : Nat) (2002872692 : Int64)) ∈ lw_all := lw_g (lw_at lw_m11 17 rfl) rfl
theorem q2543 : (Jvm.Cond.constantLong "AskedNamesModel" (298 : Nat) (6518132 : Int64)) ∈ lw_all := lw_g (lw_at lw_m11 18 rfl) rfl
theorem q2544 : (Jvm.Cond.constantLong "AskedNamesModel" (300 : Nat) (1835363940 : Int64)) ∈ lw_all := lw_g (lw_at lw_m11 19 rfl) rfl
theorem q2545 : (Jvm.Cond.methodLink "AskedNamesModel" (316 : Nat) ({ cls := "AskedNamesModel", name := "logLine", desc := "(JI)Z" } : Jvm.MethodName)) ∈ lw_all := lw_g (lw_at lw_m11 20 rfl) rfl
theorem q2546 : (Jvm.Cond.privateMethod ({ cls := "AskedNamesModel", name := "logLine", desc := "(JI)Z" } : Jvm.MethodName)) ∈ lw_tbl := lw_at lw_m11 21 rfl
theorem q2547 : (Jvm.Cond.instanceMethod ({ cls := "AskedNamesModel", name := "logLine", desc := "(JI)Z" } : Jvm.MethodName)) ∈ lw_all := lw_g (lw_at lw_m11 22 rfl) rfl
theorem q2548 : (Jvm.Cond.code ({ cls := "AskedNamesModel", name := "logLine", desc := "(JI)Z" } : Jvm.MethodName) prog_25_method_30_code (4 : Nat) (Option.some Jvm.ClassFile.FieldType.boolean)) ∈ lw_all := lw_g (lw_at lw_m11 23 rfl) rfl
theorem q2549 : (Jvm.Cond.constantLong "AskedNamesModel" (305 : Nat) (6778740 : Int64)) ∈ lw_all := lw_g (lw_at lw_m11 24 rfl) rfl
theorem q2550 : (Jvm.Cond.constantLong "AskedNamesModel" (307 : Nat) (1819243380 : Int64)) ∈ lw_all := lw_g (lw_at lw_m11 25 rfl) rfl
theorem q2551 : (Jvm.Cond.methodLink "AskedNamesModel" (328 : Nat) ({ cls := "AskedNamesModel", name := "keep", desc := "([III)V" } : Jvm.MethodName)) ∈ lw_all := lw_g (lw_at lw_m11 26 rfl) rfl
theorem q2552 : (Jvm.Cond.privateMethod ({ cls := "AskedNamesModel", name := "keep", desc := "([III)V" } : Jvm.MethodName)) ∈ lw_tbl := lw_at lw_m11 27 rfl
theorem q2553 : (Jvm.Cond.instanceMethod ({ cls := "AskedNamesModel", name := "keep", desc := "([III)V" } : Jvm.MethodName)) ∈ lw_all := lw_g (lw_at lw_m11 28 rfl) rfl
theorem q2554 : (Jvm.Cond.code ({ cls := "AskedNamesModel", name := "keep", desc := "([III)V" } : Jvm.MethodName) prog_25_method_33_code (5 : Nat) (Option.none : Option Jvm.ClassFile.FieldType)) ∈ lw_all := lw_g (lw_at lw_m11 29 rfl) rfl
theorem q2556 : (Jvm.Cond.instanceMethod ({ cls := "AskedNamesModel", name := "fault", desc := "(I)I" } : Jvm.MethodName)) ∈ lw_all := lw_g (lw_at lw_m11 31 rfl) rfl
theorem q2557 : (Jvm.Cond.selects "AskedNamesModel" ({ cls := "AskedNamesModel", name := "fault", desc := "(I)I" } : Jvm.MethodName) ({ cls := "AskedNamesModel", name := "fault", desc := "(I)I" } : Jvm.MethodName)) ∈ lw_all := lw_g (lw_at lw_m11 32 rfl) rfl
theorem q2558 : (Jvm.Cond.code ({ cls := "AskedNamesModel", name := "fault", desc := "(I)I" } : Jvm.MethodName) prog_25_method_35_code (2 : Nat) (Option.some Jvm.ClassFile.FieldType.int)) ∈ lw_all := lw_g (lw_at lw_m11 33 rfl) rfl
theorem q2560 : (Jvm.Cond.instanceMethod ({ cls := "AskedNamesModel", name := "net", desc := "(II)I" } : Jvm.MethodName)) ∈ lw_all := lw_g (lw_at lw_m11 35 rfl) rfl
theorem q2561 : (Jvm.Cond.selects "AskedNamesModel" ({ cls := "AskedNamesModel", name := "net", desc := "(II)I" } : Jvm.MethodName) ({ cls := "AskedNamesModel", name := "net", desc := "(II)I" } : Jvm.MethodName)) ∈ lw_all := lw_g (lw_at lw_m11 36 rfl) rfl
theorem q2562 : (Jvm.Cond.code ({ cls := "AskedNamesModel", name := "net", desc := "(II)I" } : Jvm.MethodName) prog_25_method_54_code (5 : Nat) (Option.some Jvm.ClassFile.FieldType.int)) ∈ lw_all := lw_g (lw_at lw_m11 37 rfl) rfl
theorem q2563 : (Jvm.Cond.methodLink "AskedNamesModel" (372 : Nat) ({ cls := "AskedNamesModel", name := "hasNet", desc := "(I)Z" } : Jvm.MethodName)) ∈ lw_all := lw_g (lw_at lw_m11 38 rfl) rfl
theorem q2564 : (Jvm.Cond.privateMethod ({ cls := "AskedNamesModel", name := "hasNet", desc := "(I)Z" } : Jvm.MethodName)) ∈ lw_tbl := lw_at lw_m11 39 rfl
theorem q2565 : (Jvm.Cond.instanceMethod ({ cls := "AskedNamesModel", name := "hasNet", desc := "(I)Z" } : Jvm.MethodName)) ∈ lw_all := lw_g (lw_at lw_m11 40 rfl) rfl
theorem q2566 : (Jvm.Cond.code ({ cls := "AskedNamesModel", name := "hasNet", desc := "(I)Z" } : Jvm.MethodName) prog_25_method_37_code (2 : Nat) (Option.some Jvm.ClassFile.FieldType.boolean)) ∈ lw_all := lw_g (lw_at lw_m11 41 rfl) rfl
theorem q2567 : (Jvm.Cond.methodLink "AskedNamesModel" (335 : Nat) ({ cls := "AskedNamesModel", name := "ofNet", desc := "(I)I" } : Jvm.MethodName)) ∈ lw_all := lw_g (lw_at lw_m11 42 rfl) rfl
theorem q2568 : (Jvm.Cond.privateMethod ({ cls := "AskedNamesModel", name := "ofNet", desc := "(I)I" } : Jvm.MethodName)) ∈ lw_tbl := lw_at lw_m11 43 rfl
theorem q2569 : (Jvm.Cond.instanceMethod ({ cls := "AskedNamesModel", name := "ofNet", desc := "(I)I" } : Jvm.MethodName)) ∈ lw_all := lw_g (lw_at lw_m11 44 rfl) rfl
theorem q2570 : (Jvm.Cond.code ({ cls := "AskedNamesModel", name := "ofNet", desc := "(I)I" } : Jvm.MethodName) prog_25_method_36_code (2 : Nat) (Option.some Jvm.ClassFile.FieldType.int)) ∈ lw_all := lw_g (lw_at lw_m11 45 rfl) rfl
theorem q2571 : (Jvm.Cond.methodLink "AskedNamesModel" (375 : Nat) ({ cls := "AskedNamesModel", name := "isNode", desc := "(I)Z" } : Jvm.MethodName)) ∈ lw_all := lw_g (lw_at lw_m11 46 rfl) rfl
theorem q2572 : (Jvm.Cond.privateMethod ({ cls := "AskedNamesModel", name := "isNode", desc := "(I)Z" } : Jvm.MethodName)) ∈ lw_tbl := lw_at lw_m11 47 rfl
theorem q2573 : (Jvm.Cond.instanceMethod ({ cls := "AskedNamesModel", name := "isNode", desc := "(I)Z" } : Jvm.MethodName)) ∈ lw_all := lw_g (lw_at lw_m11 48 rfl) rfl
theorem q2574 : (Jvm.Cond.code ({ cls := "AskedNamesModel", name := "isNode", desc := "(I)Z" } : Jvm.MethodName) prog_25_method_38_code (2 : Nat) (Option.some Jvm.ClassFile.FieldType.boolean)) ∈ lw_all := lw_g (lw_at lw_m11 49 rfl) rfl
theorem q2575 : (Jvm.Cond.methodLink "AskedNamesModel" (378 : Nat) ({ cls := "AskedNamesModel", name := "layLinks", desc := "(I)V" } : Jvm.MethodName)) ∈ lw_all := lw_g (lw_at lw_m11 50 rfl) rfl
theorem q2576 : (Jvm.Cond.privateMethod ({ cls := "AskedNamesModel", name := "layLinks", desc := "(I)V" } : Jvm.MethodName)) ∈ lw_tbl := lw_at lw_m11 51 rfl
theorem q2577 : (Jvm.Cond.instanceMethod ({ cls := "AskedNamesModel", name := "layLinks", desc := "(I)V" } : Jvm.MethodName)) ∈ lw_all := lw_g (lw_at lw_m11 52 rfl) rfl
theorem q2578 : (Jvm.Cond.code ({ cls := "AskedNamesModel", name := "layLinks", desc := "(I)V" } : Jvm.MethodName) prog_25_method_45_code (3 : Nat) (Option.none : Option Jvm.ClassFile.FieldType)) ∈ lw_all := lw_g (lw_at lw_m11 53 rfl) rfl
theorem q2579 : (Jvm.Cond.methodLink "AskedNamesModel" (345 : Nat) ({ cls := "AskedNamesModel", name := "links", desc := "()I" } : Jvm.MethodName)) ∈ lw_all := lw_g (lw_at lw_m11 54 rfl) rfl
theorem q2580 : (Jvm.Cond.privateMethod ({ cls := "AskedNamesModel", name := "links", desc := "()I" } : Jvm.MethodName)) ∈ lw_tbl := lw_at lw_m11 55 rfl
theorem q2581 : (Jvm.Cond.instanceMethod ({ cls := "AskedNamesModel", name := "links", desc := "()I" } : Jvm.MethodName)) ∈ lw_all := lw_g (lw_at lw_m11 56 rfl) rfl
theorem q2582 : (Jvm.Cond.code ({ cls := "AskedNamesModel", name := "links", desc := "()I" } : Jvm.MethodName) prog_25_method_39_code (1 : Nat) (Option.some Jvm.ClassFile.FieldType.int)) ∈ lw_all := lw_g (lw_at lw_m11 57 rfl) rfl
theorem q2583 : (Jvm.Cond.methodLink "AskedNamesModel" (348 : Nat) ({ cls := "AskedNamesModel", name := "linkAt", desc := "(II)I" } : Jvm.MethodName)) ∈ lw_all := lw_g (lw_at lw_m11 58 rfl) rfl
theorem q2584 : (Jvm.Cond.privateMethod ({ cls := "AskedNamesModel", name := "linkAt", desc := "(II)I" } : Jvm.MethodName)) ∈ lw_tbl := lw_at lw_m11 59 rfl
theorem q2585 : (Jvm.Cond.instanceMethod ({ cls := "AskedNamesModel", name := "linkAt", desc := "(II)I" } : Jvm.MethodName)) ∈ lw_all := lw_g (lw_at lw_m11 60 rfl) rfl
theorem q2586 : (Jvm.Cond.code ({ cls := "AskedNamesModel", name := "linkAt", desc := "(II)I" } : Jvm.MethodName) prog_25_method_40_code (3 : Nat) (Option.some Jvm.ClassFile.FieldType.int)) ∈ lw_all := lw_g (lw_at lw_m11 61 rfl) rfl
theorem q2587 : (Jvm.Cond.methodLink "AskedNamesModel" (381 : Nat) ({ cls := "AskedNamesModel", name := "ofPlace", desc := "(II)I" } : Jvm.MethodName)) ∈ lw_all := lw_g (lw_at lw_m11 62 rfl) rfl
theorem q2588 : (Jvm.Cond.privateMethod ({ cls := "AskedNamesModel", name := "ofPlace", desc := "(II)I" } : Jvm.MethodName)) ∈ lw_tbl := lw_at lw_m11 63 rfl
theorem q2589 : (Jvm.Cond.instanceMethod ({ cls := "AskedNamesModel", name := "ofPlace", desc := "(II)I" } : Jvm.MethodName)) ∈ lw_all := lw_g (lw_at lw_m11 64 rfl) rfl
theorem q2590 : (Jvm.Cond.code ({ cls := "AskedNamesModel", name := "ofPlace", desc := "(II)I" } : Jvm.MethodName) prog_25_method_53_code (3 : Nat) (Option.some Jvm.ClassFile.FieldType.int)) ∈ lw_all := lw_g (lw_at lw_m11 65 rfl) rfl
theorem q2591 : (Jvm.Cond.methodLink "AskedNamesModel" (357 : Nat) ({ cls := "AskedNamesModel", name := "routes", desc := "()I" } : Jvm.MethodName)) ∈ lw_all := lw_g (lw_at lw_m11 66 rfl) rfl
theorem q2592 : (Jvm.Cond.privateMethod ({ cls := "AskedNamesModel", name := "routes", desc := "()I" } : Jvm.MethodName)) ∈ lw_tbl := lw_at lw_m11 67 rfl
theorem q2593 : (Jvm.Cond.instanceMethod ({ cls := "AskedNamesModel", name := "routes", desc := "()I" } : Jvm.MethodName)) ∈ lw_all := lw_g (lw_at lw_m11 68 rfl) rfl
theorem q2594 : (Jvm.Cond.code ({ cls := "AskedNamesModel", name := "routes", desc := "()I" } : Jvm.MethodName) prog_25_method_41_code (1 : Nat) (Option.some Jvm.ClassFile.FieldType.int)) ∈ lw_all := lw_g (lw_at lw_m11 69 rfl) rfl
theorem q2595 : (Jvm.Cond.methodLink "AskedNamesModel" (360 : Nat) ({ cls := "AskedNamesModel", name := "routeAt", desc := "(II)I" } : Jvm.MethodName)) ∈ lw_all := lw_g (lw_at lw_m11 70 rfl) rfl
theorem q2596 : (Jvm.Cond.privateMethod ({ cls := "AskedNamesModel", name := "routeAt", desc := "(II)I" } : Jvm.MethodName)) ∈ lw_tbl := lw_at lw_m11 71 rfl
theorem q2597 : (Jvm.Cond.instanceMethod ({ cls := "AskedNamesModel", name := "routeAt", desc := "(II)I" } : Jvm.MethodName)) ∈ lw_all := lw_g (lw_at lw_m11 72 rfl) rfl
theorem q2598 : (Jvm.Cond.code ({ cls := "AskedNamesModel", name := "routeAt", desc := "(II)I" } : Jvm.MethodName) prog_25_method_42_code (3 : Nat) (Option.some Jvm.ClassFile.FieldType.int)) ∈ lw_all := lw_g (lw_at lw_m11 73 rfl) rfl
theorem q2599 : (Jvm.Cond.methodLink "AskedNamesModel" (366 : Nat) ({ cls := "AskedNamesModel", name := "serves", desc := "()I" } : Jvm.MethodName)) ∈ lw_all := lw_g (lw_at lw_m11 74 rfl) rfl
theorem q2600 : (Jvm.Cond.privateMethod ({ cls := "AskedNamesModel", name := "serves", desc := "()I" } : Jvm.MethodName)) ∈ lw_tbl := lw_at lw_m11 75 rfl
theorem q2601 : (Jvm.Cond.instanceMethod ({ cls := "AskedNamesModel", name := "serves", desc := "()I" } : Jvm.MethodName)) ∈ lw_all := lw_g (lw_at lw_m11 76 rfl) rfl
theorem q2602 : (Jvm.Cond.code ({ cls := "AskedNamesModel", name := "serves", desc := "()I" } : Jvm.MethodName) prog_25_method_43_code (1 : Nat) (Option.some Jvm.ClassFile.FieldType.int)) ∈ lw_all := lw_g (lw_at lw_m11 77 rfl) rfl
theorem q2603 : (Jvm.Cond.methodLink "AskedNamesModel" (369 : Nat) ({ cls := "AskedNamesModel", name := "serveAt", desc := "(II)I" } : Jvm.MethodName)) ∈ lw_all := lw_g (lw_at lw_m11 78 rfl) rfl
theorem q2604 : (Jvm.Cond.privateMethod ({ cls := "AskedNamesModel", name := "serveAt", desc := "(II)I" } : Jvm.MethodName)) ∈ lw_tbl := lw_at lw_m11 79 rfl
theorem q2605 : (Jvm.Cond.instanceMethod ({ cls := "AskedNamesModel", name := "serveAt", desc := "(II)I" } : Jvm.MethodName)) ∈ lw_all := lw_g (lw_at lw_m11 80 rfl) rfl
theorem q2606 : (Jvm.Cond.code ({ cls := "AskedNamesModel", name := "serveAt", desc := "(II)I" } : Jvm.MethodName) prog_25_method_44_code (3 : Nat) (Option.some Jvm.ClassFile.FieldType.int)) ∈ lw_all := lw_g (lw_at lw_m11 81 rfl) rfl
theorem q2608 : (Jvm.Cond.instanceMethod ({ cls := "AskedNamesModel", name := "deed", desc := "(III)I" } : Jvm.MethodName)) ∈ lw_all := lw_g (lw_at lw_m11 83 rfl) rfl
theorem q2609 : (Jvm.Cond.selects "AskedNamesModel" ({ cls := "AskedNamesModel", name := "deed", desc := "(III)I" } : Jvm.MethodName) ({ cls := "AskedNamesModel", name := "deed", desc := "(III)I" } : Jvm.MethodName)) ∈ lw_all := lw_g (lw_at lw_m11 84 rfl) rfl
theorem q2610 : (Jvm.Cond.code ({ cls := "AskedNamesModel", name := "deed", desc := "(III)I" } : Jvm.MethodName) prog_25_method_90_code (4 : Nat) (Option.some Jvm.ClassFile.FieldType.int)) ∈ lw_all := lw_g (lw_at lw_m11 85 rfl) rfl
theorem q2611 : (Jvm.Cond.methodLink "AskedNamesModel" (531 : Nat) ({ cls := "AskedNamesModel", name := "hasRun", desc := "(I)Z" } : Jvm.MethodName)) ∈ lw_all := lw_g (lw_at lw_m11 86 rfl) rfl
theorem q2612 : (Jvm.Cond.privateMethod ({ cls := "AskedNamesModel", name := "hasRun", desc := "(I)Z" } : Jvm.MethodName)) ∈ lw_tbl := lw_at lw_m11 87 rfl
theorem q2613 : (Jvm.Cond.instanceMethod ({ cls := "AskedNamesModel", name := "hasRun", desc := "(I)Z" } : Jvm.MethodName)) ∈ lw_all := lw_g (lw_at lw_m11 88 rfl) rfl
theorem q2614 : (Jvm.Cond.code ({ cls := "AskedNamesModel", name := "hasRun", desc := "(I)Z" } : Jvm.MethodName) prog_25_method_89_code (2 : Nat) (Option.some Jvm.ClassFile.FieldType.boolean)) ∈ lw_all := lw_g (lw_at lw_m11 89 rfl) rfl
theorem q2615 : (Jvm.Cond.methodLink "AskedNamesModel" (534 : Nat) ({ cls := "AskedNamesModel", name := "deeds", desc := "()I" } : Jvm.MethodName)) ∈ lw_all := lw_g (lw_at lw_m11 90 rfl) rfl
theorem q2616 : (Jvm.Cond.privateMethod ({ cls := "AskedNamesModel", name := "deeds", desc := "()I" } : Jvm.MethodName)) ∈ lw_tbl := lw_at lw_m11 91 rfl
theorem q2617 : (Jvm.Cond.instanceMethod ({ cls := "AskedNamesModel", name := "deeds", desc := "()I" } : Jvm.MethodName)) ∈ lw_all := lw_g (lw_at lw_m11 92 rfl) rfl
theorem q2618 : (Jvm.Cond.code ({ cls := "AskedNamesModel", name := "deeds", desc := "()I" } : Jvm.MethodName) prog_25_method_87_code (1 : Nat) (Option.some Jvm.ClassFile.FieldType.int)) ∈ lw_all := lw_g (lw_at lw_m11 93 rfl) rfl
theorem q2619 : (Jvm.Cond.methodLink "AskedNamesModel" (537 : Nat) ({ cls := "AskedNamesModel", name := "deedOf", desc := "(II)I" } : Jvm.MethodName)) ∈ lw_all := lw_g (lw_at lw_m11 94 rfl) rfl
theorem q2620 : (Jvm.Cond.privateMethod ({ cls := "AskedNamesModel", name := "deedOf", desc := "(II)I" } : Jvm.MethodName)) ∈ lw_tbl := lw_at lw_m11 95 rfl
theorem q2621 : (Jvm.Cond.instanceMethod ({ cls := "AskedNamesModel", name := "deedOf", desc := "(II)I" } : Jvm.MethodName)) ∈ lw_all := lw_g (lw_at lw_m11 96 rfl) rfl
theorem q2622 : (Jvm.Cond.code ({ cls := "AskedNamesModel", name := "deedOf", desc := "(II)I" } : Jvm.MethodName) prog_25_method_88_code (3 : Nat) (Option.some Jvm.ClassFile.FieldType.int)) ∈ lw_all := lw_g (lw_at lw_m11 97 rfl) rfl
theorem q2624 : (Jvm.Cond.instanceMethod ({ cls := "AskedNamesModel", name := "stop", desc := "(II)I" } : Jvm.MethodName)) ∈ lw_all := lw_g (lw_at lw_m11 99 rfl) rfl
theorem q2625 : (Jvm.Cond.selects "AskedNamesModel" ({ cls := "AskedNamesModel", name := "stop", desc := "(II)I" } : Jvm.MethodName) ({ cls := "AskedNamesModel", name := "stop", desc := "(II)I" } : Jvm.MethodName)) ∈ lw_all := lw_g (lw_at lw_m11 100 rfl) rfl
theorem q2626 : (Jvm.Cond.code ({ cls := "AskedNamesModel", name := "stop", desc := "(II)I" } : Jvm.MethodName) prog_25_method_94_code (3 : Nat) (Option.some Jvm.ClassFile.FieldType.int)) ∈ lw_all := lw_g (lw_at lw_m11 101 rfl) rfl
theorem q2627 : (Jvm.Cond.methodLink "AskedNamesModel" (552 : Nat) ({ cls := "AskedNamesModel", name := "lay", desc := "(II)Z" } : Jvm.MethodName)) ∈ lw_all := lw_g (lw_at lw_m11 102 rfl) rfl
theorem q2628 : (Jvm.Cond.privateMethod ({ cls := "AskedNamesModel", name := "lay", desc := "(II)Z" } : Jvm.MethodName)) ∈ lw_tbl := lw_at lw_m11 103 rfl
theorem q2629 : (Jvm.Cond.instanceMethod ({ cls := "AskedNamesModel", name := "lay", desc := "(II)Z" } : Jvm.MethodName)) ∈ lw_all := lw_g (lw_at lw_m11 104 rfl) rfl
theorem q2630 : (Jvm.Cond.code ({ cls := "AskedNamesModel", name := "lay", desc := "(II)Z" } : Jvm.MethodName) prog_25_method_93_code (3 : Nat) (Option.some Jvm.ClassFile.FieldType.boolean)) ∈ lw_all := lw_g (lw_at lw_m11 105 rfl) rfl
theorem q2631 : (Jvm.Cond.methodLink "AskedNamesModel" (549 : Nat) ({ cls := "AskedNamesModel", name := "begin", desc := "(I)V" } : Jvm.MethodName)) ∈ lw_all := lw_g (lw_at lw_m11 106 rfl) rfl
theorem q2632 : (Jvm.Cond.privateMethod ({ cls := "AskedNamesModel", name := "begin", desc := "(I)V" } : Jvm.MethodName)) ∈ lw_tbl := lw_at lw_m11 107 rfl
theorem q2633 : (Jvm.Cond.instanceMethod ({ cls := "AskedNamesModel", name := "begin", desc := "(I)V" } : Jvm.MethodName)) ∈ lw_all := lw_g (lw_at lw_m11 108 rfl) rfl
theorem q2634 : (Jvm.Cond.code ({ cls := "AskedNamesModel", name := "begin", desc := "(I)V" } : Jvm.MethodName) prog_25_method_55_code (3 : Nat) (Option.none : Option Jvm.ClassFile.FieldType)) ∈ lw_all := lw_g (lw_at lw_m11 109 rfl) rfl
theorem q2635 : (Jvm.Cond.methodLink "AskedNamesModel" (555 : Nat) ({ cls := "AskedNamesModel", name := "play", desc := "(I)I" } : Jvm.MethodName)) ∈ lw_all := lw_g (lw_at lw_m11 110 rfl) rfl
theorem q2636 : (Jvm.Cond.privateMethod ({ cls := "AskedNamesModel", name := "play", desc := "(I)I" } : Jvm.MethodName)) ∈ lw_tbl := lw_at lw_m11 111 rfl
theorem q2637 : (Jvm.Cond.instanceMethod ({ cls := "AskedNamesModel", name := "play", desc := "(I)I" } : Jvm.MethodName)) ∈ lw_all := lw_g (lw_at lw_m11 112 rfl) rfl
theorem q2638 : (Jvm.Cond.code ({ cls := "AskedNamesModel", name := "play", desc := "(I)I" } : Jvm.MethodName) prog_25_method_92_code (3 : Nat) (Option.some Jvm.ClassFile.FieldType.int)) ∈ lw_all := lw_g (lw_at lw_m11 113 rfl) rfl
theorem q2639 : (Jvm.Cond.methodLink "AskedNamesModel" (543 : Nat) ({ cls := "AskedNamesModel", name := "does", desc := "(IIII)Z" } : Jvm.MethodName)) ∈ lw_all := lw_g (lw_at lw_m11 114 rfl) rfl
theorem q2640 : (Jvm.Cond.privateMethod ({ cls := "AskedNamesModel", name := "does", desc := "(IIII)Z" } : Jvm.MethodName)) ∈ lw_tbl := lw_at lw_m11 115 rfl
theorem q2641 : (Jvm.Cond.instanceMethod ({ cls := "AskedNamesModel", name := "does", desc := "(IIII)Z" } : Jvm.MethodName)) ∈ lw_all := lw_g (lw_at lw_m11 116 rfl) rfl
theorem q2642 : (Jvm.Cond.code ({ cls := "AskedNamesModel", name := "does", desc := "(IIII)Z" } : Jvm.MethodName) prog_25_method_86_code (5 : Nat) (Option.some Jvm.ClassFile.FieldType.boolean)) ∈ lw_all := lw_g (lw_at lw_m11 117 rfl) rfl
theorem q2643 : (Jvm.Cond.methodLink "AskedNamesModel" (518 : Nat) ({ cls := "AskedNamesModel", name := "asks", desc := "(IIII)Z" } : Jvm.MethodName)) ∈ lw_all := lw_g (lw_at lw_m11 118 rfl) rfl
theorem q2644 : (Jvm.Cond.privateMethod ({ cls := "AskedNamesModel", name := "asks", desc := "(IIII)Z" } : Jvm.MethodName)) ∈ lw_tbl := lw_at lw_m11 119 rfl
theorem q2645 : (Jvm.Cond.instanceMethod ({ cls := "AskedNamesModel", name := "asks", desc := "(IIII)Z" } : Jvm.MethodName)) ∈ lw_all := lw_g (lw_at lw_m11 120 rfl) rfl
theorem q2646 : (Jvm.Cond.code ({ cls := "AskedNamesModel", name := "asks", desc := "(IIII)Z" } : Jvm.MethodName) prog_25_method_84_code (5 : Nat) (Option.some Jvm.ClassFile.FieldType.boolean)) ∈ lw_all := lw_g (lw_at lw_m11 121 rfl) rfl
theorem q2647 : (Jvm.Cond.methodLink "AskedNamesModel" (497 : Nat) ({ cls := "AskedNamesModel", name := "interest", desc := "(IIIII)V" } : Jvm.MethodName)) ∈ lw_all := lw_g (lw_at lw_m11 122 rfl) rfl
theorem q2648 : (Jvm.Cond.privateMethod ({ cls := "AskedNamesModel", name := "interest", desc := "(IIIII)V" } : Jvm.MethodName)) ∈ lw_tbl := lw_at lw_m11 123 rfl
theorem q2649 : (Jvm.Cond.instanceMethod ({ cls := "AskedNamesModel", name := "interest", desc := "(IIIII)V" } : Jvm.MethodName)) ∈ lw_all := lw_g (lw_at lw_m11 124 rfl) rfl
theorem q2650 : (Jvm.Cond.code ({ cls := "AskedNamesModel", name := "interest", desc := "(IIIII)V" } : Jvm.MethodName) prog_25_method_74_code (8 : Nat) (Option.none : Option Jvm.ClassFile.FieldType)) ∈ lw_all := lw_g (lw_at lw_m11 125 rfl) rfl
theorem q2651 : (Jvm.Cond.methodLink "AskedNamesModel" (472 : Nat) ({ cls := "AskedNamesModel", name := "entryOf", desc := "(III)I" } : Jvm.MethodName)) ∈ lw_all := lw_g (lw_at lw_m11 126 rfl) rfl
theorem q2652 : (Jvm.Cond.privateMethod ({ cls := "AskedNamesModel", name := "entryOf", desc := "(III)I" } : Jvm.MethodName)) ∈ lw_tbl := lw_at lw_m11 127 rfl
theorem q2653 : (Jvm.Cond.instanceMethod ({ cls := "AskedNamesModel", name := "entryOf", desc := "(III)I" } : Jvm.MethodName)) ∈ lw_all := lw_g (lw_at lw_m11 128 rfl) rfl
theorem q2654 : (Jvm.Cond.code ({ cls := "AskedNamesModel", name := "entryOf", desc := "(III)I" } : Jvm.MethodName) prog_25_method_65_code (5 : Nat) (Option.some Jvm.ClassFile.FieldType.int)) ∈ lw_all := lw_g (lw_at lw_m11 129 rfl) rfl
theorem q2655 : (Jvm.Cond.methodLink "AskedNamesModel" (436 : Nat) ({ cls := "AskedNamesModel", name := "storedAt", desc := "(II)I" } : Jvm.MethodName)) ∈ lw_all := lw_g (lw_at lw_m11 130 rfl) rfl
theorem q2656 : (Jvm.Cond.privateMethod ({ cls := "AskedNamesModel", name := "storedAt", desc := "(II)I" } : Jvm.MethodName)) ∈ lw_tbl := lw_at lw_m11 131 rfl
theorem q2657 : (Jvm.Cond.instanceMethod ({ cls := "AskedNamesModel", name := "storedAt", desc := "(II)I" } : Jvm.MethodName)) ∈ lw_all := lw_g (lw_at lw_m11 132 rfl) rfl
theorem q2658 : (Jvm.Cond.code ({ cls := "AskedNamesModel", name := "storedAt", desc := "(II)I" } : Jvm.MethodName) prog_25_method_62_code (4 : Nat) (Option.some Jvm.ClassFile.FieldType.int)) ∈ lw_all := lw_g (lw_at lw_m11 133 rfl) rfl
theorem q2659 : (Jvm.Cond.methodLink "AskedNamesModel" (475 : Nat) ({ cls := "AskedNamesModel", name := "hasL", desc := "(JI)Z" } : Jvm.MethodName)) ∈ lw_all := lw_g (lw_at lw_m11 134 rfl) rfl
theorem q2660 : (Jvm.Cond.static ({ cls := "AskedNamesModel", name := "hasL", desc := "(JI)Z" } : Jvm.MethodName)) ∈ lw_all := lw_g (lw_at lw_m11 135 rfl) rfl
theorem q2661 : (Jvm.Cond.code ({ cls := "AskedNamesModel", name := "hasL", desc := "(JI)Z" } : Jvm.MethodName) prog_25_method_67_code (3 : Nat) (Option.some Jvm.ClassFile.FieldType.boolean)) ∈ lw_all := lw_g (lw_at lw_m11 136 rfl) rfl
theorem q2662 : (Jvm.Cond.methodLink "AskedNamesModel" (462 : Nat) ({ cls := "AskedNamesModel", name := "firstNack", desc := "(IIIII)V" } : Jvm.MethodName)) ∈ lw_all := lw_g (lw_at lw_m11 137 rfl) rfl
theorem q2663 : (Jvm.Cond.privateMethod ({ cls := "AskedNamesModel", name := "firstNack", desc := "(IIIII)V" } : Jvm.MethodName)) ∈ lw_tbl := lw_at lw_m11 138 rfl
theorem q2664 : (Jvm.Cond.instanceMethod ({ cls := "AskedNamesModel", name := "firstNack", desc := "(IIIII)V" } : Jvm.MethodName)) ∈ lw_all := lw_g (lw_at lw_m11 139 rfl) rfl
theorem q2665 : (Jvm.Cond.code ({ cls := "AskedNamesModel", name := "firstNack", desc := "(IIIII)V" } : Jvm.MethodName) prog_25_method_61_code (6 : Nat) (Option.none : Option Jvm.ClassFile.FieldType)) ∈ lw_all := lw_g (lw_at lw_m11 140 rfl) rfl
theorem q2666 : (Jvm.Cond.methodLink "AskedNamesModel" (433 : Nat) ({ cls := "AskedNamesModel", name := "nackTo", desc := "(IIII)V" } : Jvm.MethodName)) ∈ lw_all := lw_g (lw_at lw_m11 141 rfl) rfl
theorem q2667 : (Jvm.Cond.privateMethod ({ cls := "AskedNamesModel", name := "nackTo", desc := "(IIII)V" } : Jvm.MethodName)) ∈ lw_tbl := lw_at lw_m11 142 rfl
theorem q2668 : (Jvm.Cond.instanceMethod ({ cls := "AskedNamesModel", name := "nackTo", desc := "(IIII)V" } : Jvm.MethodName)) ∈ lw_all := lw_g (lw_at lw_m11 143 rfl) rfl
theorem q2669 : (Jvm.Cond.code ({ cls := "AskedNamesModel", name := "nackTo", desc := "(IIII)V" } : Jvm.MethodName) prog_25_method_60_code (5 : Nat) (Option.none : Option Jvm.ClassFile.FieldType)) ∈ lw_all := lw_g (lw_at lw_m11 144 rfl) rfl
theorem q2670 : (Jvm.Cond.methodLink "AskedNamesModel" (430 : Nat) ({ cls := "AskedNamesModel", name := "refused", desc := "(I)V" } : Jvm.MethodName)) ∈ lw_all := lw_g (lw_at lw_m11 145 rfl) rfl
theorem q2671 : (Jvm.Cond.privateMethod ({ cls := "AskedNamesModel", name := "refused", desc := "(I)V" } : Jvm.MethodName)) ∈ lw_tbl := lw_at lw_m11 146 rfl
theorem q2672 : (Jvm.Cond.instanceMethod ({ cls := "AskedNamesModel", name := "refused", desc := "(I)V" } : Jvm.MethodName)) ∈ lw_all := lw_g (lw_at lw_m11 147 rfl) rfl
theorem q2673 : (Jvm.Cond.code ({ cls := "AskedNamesModel", name := "refused", desc := "(I)V" } : Jvm.MethodName) prog_25_method_58_code (2 : Nat) (Option.none : Option Jvm.ClassFile.FieldType)) ∈ lw_all := lw_g (lw_at lw_m11 148 rfl) rfl
theorem q2674 : (Jvm.Cond.methodLink "AskedNamesModel" (426 : Nat) ({ cls := "AskedNamesModel", name := "sends", desc := "(IIIIII)V" } : Jvm.MethodName)) ∈ lw_all := lw_g (lw_at lw_m11 149 rfl) rfl
theorem q2675 : (Jvm.Cond.privateMethod ({ cls := "AskedNamesModel", name := "sends", desc := "(IIIIII)V" } : Jvm.MethodName)) ∈ lw_tbl := lw_at lw_m11 150 rfl
theorem q2676 : (Jvm.Cond.instanceMethod ({ cls := "AskedNamesModel", name := "sends", desc := "(IIIIII)V" } : Jvm.MethodName)) ∈ lw_all := lw_g (lw_at lw_m11 151 rfl) rfl
theorem q2677 : (Jvm.Cond.code ({ cls := "AskedNamesModel", name := "sends", desc := "(IIIIII)V" } : Jvm.MethodName) prog_25_method_56_code (7 : Nat) (Option.none : Option Jvm.ClassFile.FieldType)) ∈ lw_all := lw_g (lw_at lw_m11 152 rfl) rfl
theorem q2678 : (Jvm.Cond.methodLink "AskedNamesModel" (408 : Nat) ({ cls := "AskedNamesModel", name := "isUp", desc := "(II)Z" } : Jvm.MethodName)) ∈ lw_all := lw_g (lw_at lw_m11 153 rfl) rfl
theorem q2679 : (Jvm.Cond.privateMethod ({ cls := "AskedNamesModel", name := "isUp", desc := "(II)Z" } : Jvm.MethodName)) ∈ lw_tbl := lw_at lw_m11 154 rfl
theorem q2680 : (Jvm.Cond.instanceMethod ({ cls := "AskedNamesModel", name := "isUp", desc := "(II)Z" } : Jvm.MethodName)) ∈ lw_all := lw_g (lw_at lw_m11 155 rfl) rfl
theorem q2681 : (Jvm.Cond.code ({ cls := "AskedNamesModel", name := "isUp", desc := "(II)Z" } : Jvm.MethodName) prog_25_method_46_code (4 : Nat) (Option.some Jvm.ClassFile.FieldType.boolean)) ∈ lw_all := lw_g (lw_at lw_m11 156 rfl) rfl
theorem q2682 : (Jvm.Cond.methodLink "AskedNamesModel" (173 : Nat) ({ cls := "AskedNamesModel", name := "has", desc := "(II)Z" } : Jvm.MethodName)) ∈ lw_all := lw_g (lw_at lw_m11 157 rfl) rfl
theorem q2683 : (Jvm.Cond.static ({ cls := "AskedNamesModel", name := "has", desc := "(II)Z" } : Jvm.MethodName)) ∈ lw_all := lw_g (lw_at lw_m11 158 rfl) rfl
theorem q2684 : (Jvm.Cond.code ({ cls := "AskedNamesModel", name := "has", desc := "(II)Z" } : Jvm.MethodName) prog_25_method_4_code (2 : Nat) (Option.some Jvm.ClassFile.FieldType.boolean)) ∈ lw_all := lw_g (lw_at lw_m11 159 rfl) rfl
theorem q2685 : (Jvm.Cond.methodLink "AskedNamesModel" (478 : Nat) ({ cls := "AskedNamesModel", name := "fromStore", desc := "(IIII)V" } : Jvm.MethodName)) ∈ lw_all := lw_g (lw_at lw_m11 160 rfl) rfl
theorem q2686 : (Jvm.Cond.privateMethod ({ cls := "AskedNamesModel", name := "fromStore", desc := "(IIII)V" } : Jvm.MethodName)) ∈ lw_tbl := lw_at lw_m11 161 rfl
theorem q2687 : (Jvm.Cond.instanceMethod ({ cls := "AskedNamesModel", name := "fromStore", desc := "(IIII)V" } : Jvm.MethodName)) ∈ lw_all := lw_g (lw_at lw_m11 162 rfl) rfl
theorem q2688 : (Jvm.Cond.code ({ cls := "AskedNamesModel", name := "fromStore", desc := "(IIII)V" } : Jvm.MethodName) prog_25_method_72_code (6 : Nat) (Option.none : Option Jvm.ClassFile.FieldType)) ∈ lw_all := lw_g (lw_at lw_m11 163 rfl) rfl
theorem q2689 : (Jvm.Cond.methodLink "AskedNamesModel" (466 : Nat) ({ cls := "AskedNamesModel", name := "putsLast", desc := "(IIII)V" } : Jvm.MethodName)) ∈ lw_all := lw_g (lw_at lw_m11 164 rfl) rfl
theorem q2690 : (Jvm.Cond.privateMethod ({ cls := "AskedNamesModel", name := "putsLast", desc := "(IIII)V" } : Jvm.MethodName)) ∈ lw_tbl := lw_at lw_m11 165 rfl
theorem q2691 : (Jvm.Cond.instanceMethod ({ cls := "AskedNamesModel", name := "putsLast", desc := "(IIII)V" } : Jvm.MethodName)) ∈ lw_all := lw_g (lw_at lw_m11 166 rfl) rfl
theorem q2692 : (Jvm.Cond.code ({ cls := "AskedNamesModel", name := "putsLast", desc := "(IIII)V" } : Jvm.MethodName) prog_25_method_64_code (7 : Nat) (Option.none : Option Jvm.ClassFile.FieldType)) ∈ lw_all := lw_g (lw_at lw_m11 167 rfl) rfl
theorem q2693 : (Jvm.Cond.methodLink "AskedNamesModel" (439 : Nat) ({ cls := "AskedNamesModel", name := "takesOut", desc := "(II)V" } : Jvm.MethodName)) ∈ lw_all := lw_g (lw_at lw_m11 168 rfl) rfl
theorem q2694 : (Jvm.Cond.privateMethod ({ cls := "AskedNamesModel", name := "takesOut", desc := "(II)V" } : Jvm.MethodName)) ∈ lw_tbl := lw_at lw_m11 169 rfl
theorem q2695 : (Jvm.Cond.instanceMethod ({ cls := "AskedNamesModel", name := "takesOut", desc := "(II)V" } : Jvm.MethodName)) ∈ lw_all := lw_g (lw_at lw_m11 170 rfl) rfl
theorem q2696 : (Jvm.Cond.code ({ cls := "AskedNamesModel", name := "takesOut", desc := "(II)V" } : Jvm.MethodName) prog_25_method_63_code (4 : Nat) (Option.none : Option Jvm.ClassFile.FieldType)) ∈ lw_all := lw_g (lw_at lw_m11 171 rfl) rfl
theorem q2697 : (Jvm.Cond.methodLink "AskedNamesModel" (469 : Nat) ({ cls := "AskedNamesModel", name := "dataTo", desc := "(III)V" } : Jvm.MethodName)) ∈ lw_all := lw_g (lw_at lw_m11 172 rfl) rfl
theorem q2698 : (Jvm.Cond.privateMethod ({ cls := "AskedNamesModel", name := "dataTo", desc := "(III)V" } : Jvm.MethodName)) ∈ lw_tbl := lw_at lw_m11 173 rfl
theorem q2699 : (Jvm.Cond.instanceMethod ({ cls := "AskedNamesModel", name := "dataTo", desc := "(III)V" } : Jvm.MethodName)) ∈ lw_all := lw_g (lw_at lw_m11 174 rfl) rfl
theorem q2700 : (Jvm.Cond.code ({ cls := "AskedNamesModel", name := "dataTo", desc := "(III)V" } : Jvm.MethodName) prog_25_method_59_code (4 : Nat) (Option.none : Option Jvm.ClassFile.FieldType)) ∈ lw_all := lw_g (lw_at lw_m11 175 rfl) rfl
theorem q2701 : (Jvm.Cond.methodLink "AskedNamesModel" (423 : Nat) ({ cls := "AskedNamesModel", name := "gets", desc := "(I)V" } : Jvm.MethodName)) ∈ lw_all := lw_g (lw_at lw_m11 176 rfl) rfl
theorem q2702 : (Jvm.Cond.privateMethod ({ cls := "AskedNamesModel", name := "gets", desc := "(I)V" } : Jvm.MethodName)) ∈ lw_tbl := lw_at lw_m11 177 rfl
theorem q2703 : (Jvm.Cond.instanceMethod ({ cls := "AskedNamesModel", name := "gets", desc := "(I)V" } : Jvm.MethodName)) ∈ lw_all := lw_g (lw_at lw_m11 178 rfl) rfl
theorem q2704 : (Jvm.Cond.code ({ cls := "AskedNamesModel", name := "gets", desc := "(I)V" } : Jvm.MethodName) prog_25_method_57_code (2 : Nat) (Option.none : Option Jvm.ClassFile.FieldType)) ∈ lw_all := lw_g (lw_at lw_m11 179 rfl) rfl
theorem q2705 : (Jvm.Cond.methodLink "AskedNamesModel" (481 : Nat) ({ cls := "AskedNamesModel", name := "serveFor", desc := "(II)I" } : Jvm.MethodName)) ∈ lw_all := lw_g (lw_at lw_m11 180 rfl) rfl
theorem q2706 : (Jvm.Cond.privateMethod ({ cls := "AskedNamesModel", name := "serveFor", desc := "(II)I" } : Jvm.MethodName)) ∈ lw_tbl := lw_at lw_m11 181 rfl
theorem q2707 : (Jvm.Cond.instanceMethod ({ cls := "AskedNamesModel", name := "serveFor", desc := "(II)I" } : Jvm.MethodName)) ∈ lw_all := lw_g (lw_at lw_m11 182 rfl) rfl
theorem q2708 : (Jvm.Cond.code ({ cls := "AskedNamesModel", name := "serveFor", desc := "(II)I" } : Jvm.MethodName) prog_25_method_52_code (6 : Nat) (Option.some Jvm.ClassFile.FieldType.int)) ∈ lw_all := lw_g (lw_at lw_m11 183 rfl) rfl
theorem q2709 : (Jvm.Cond.methodLink "AskedNamesModel" (363 : Nat) ({ cls := "AskedNamesModel", name := "isBeginning", desc := "(II)Z" } : Jvm.MethodName)) ∈ lw_all := lw_g (lw_at lw_m11 184 rfl) rfl
theorem q2710 : (Jvm.Cond.static ({ cls := "AskedNamesModel", name := "isBeginning", desc := "(II)Z" } : Jvm.MethodName)) ∈ lw_all := lw_g (lw_at lw_m11 185 rfl) rfl
theorem q2711 : (Jvm.Cond.code ({ cls := "AskedNamesModel", name := "isBeginning", desc := "(II)Z" } : Jvm.MethodName) prog_25_method_48_code (4 : Nat) (Option.some Jvm.ClassFile.FieldType.boolean)) ∈ lw_all := lw_g (lw_at lw_m11 186 rfl) rfl
theorem q2712 : (Jvm.Cond.methodLink "AskedNamesModel" (354 : Nat) ({ cls := "AskedNamesModel", name := "lettersOf", desc := "(I)I" } : Jvm.MethodName)) ∈ lw_all := lw_g (lw_at lw_m11 187 rfl) rfl
theorem q2713 : (Jvm.Cond.static ({ cls := "AskedNamesModel", name := "lettersOf", desc := "(I)I" } : Jvm.MethodName)) ∈ lw_all := lw_g (lw_at lw_m11 188 rfl) rfl
theorem q2714 : (Jvm.Cond.code ({ cls := "AskedNamesModel", name := "lettersOf", desc := "(I)I" } : Jvm.MethodName) prog_25_method_47_code (3 : Nat) (Option.some Jvm.ClassFile.FieldType.int)) ∈ lw_all := lw_g (lw_at lw_m11 189 rfl) rfl
theorem q2715 : (Jvm.Cond.methodLink "AskedNamesModel" (484 : Nat) ({ cls := "AskedNamesModel", name := "fromServer", desc := "(IIII)V" } : Jvm.MethodName)) ∈ lw_all := lw_g (lw_at lw_m11 190 rfl) rfl
theorem q2716 : (Jvm.Cond.privateMethod ({ cls := "AskedNamesModel", name := "fromServer", desc := "(IIII)V" } : Jvm.MethodName)) ∈ lw_tbl := lw_at lw_m11 191 rfl
theorem q2717 : (Jvm.Cond.instanceMethod ({ cls := "AskedNamesModel", name := "fromServer", desc := "(IIII)V" } : Jvm.MethodName)) ∈ lw_all := lw_g (lw_at lw_m11 192 rfl) rfl
theorem q2718 : (Jvm.Cond.code ({ cls := "AskedNamesModel", name := "fromServer", desc := "(IIII)V" } : Jvm.MethodName) prog_25_method_73_code (5 : Nat) (Option.none : Option Jvm.ClassFile.FieldType)) ∈ lw_all := lw_g (lw_at lw_m11 193 rfl) rfl
theorem q2719 : (Jvm.Cond.methodLink "AskedNamesModel" (453 : Nat) ({ cls := "AskedNamesModel", name := "joins", desc := "(III)V" } : Jvm.MethodName)) ∈ lw_all := lw_g (lw_at lw_m11 194 rfl) rfl
theorem q2720 : (Jvm.Cond.privateMethod ({ cls := "AskedNamesModel", name := "joins", desc := "(III)V" } : Jvm.MethodName)) ∈ lw_tbl := lw_at lw_m11 195 rfl
theorem q2721 : (Jvm.Cond.instanceMethod ({ cls := "AskedNamesModel", name := "joins", desc := "(III)V" } : Jvm.MethodName)) ∈ lw_all := lw_g (lw_at lw_m11 196 rfl) rfl
theorem q2722 : (Jvm.Cond.code ({ cls := "AskedNamesModel", name := "joins", desc := "(III)V" } : Jvm.MethodName) prog_25_method_70_code (4 : Nat) (Option.none : Option Jvm.ClassFile.FieldType)) ∈ lw_all := lw_g (lw_at lw_m11 197 rfl) rfl
theorem q2723 : (Jvm.Cond.methodLink "AskedNamesModel" (487 : Nat) ({ cls := "AskedNamesModel", name := "makesEntry", desc := "(IIIII)V" } : Jvm.MethodName)) ∈ lw_all := lw_g (lw_at lw_m11 198 rfl) rfl
theorem q2724 : (Jvm.Cond.privateMethod ({ cls := "AskedNamesModel", name := "makesEntry", desc := "(IIIII)V" } : Jvm.MethodName)) ∈ lw_tbl := lw_at lw_m11 199 rfl
theorem q2725 : (Jvm.Cond.instanceMethod ({ cls := "AskedNamesModel", name := "makesEntry", desc := "(IIIII)V" } : Jvm.MethodName)) ∈ lw_all := lw_g (lw_at lw_m11 200 rfl) rfl
theorem q2726 : (Jvm.Cond.code ({ cls := "AskedNamesModel", name := "makesEntry", desc := "(IIIII)V" } : Jvm.MethodName) prog_25_method_71_code (7 : Nat) (Option.none : Option Jvm.ClassFile.FieldType)) ∈ lw_all := lw_g (lw_at lw_m11 201 rfl) rfl
theorem q2727 : (Jvm.Cond.methodLink "AskedNamesModel" (456 : Nat) ({ cls := "AskedNamesModel", name := "goesOn", desc := "(II)Z" } : Jvm.MethodName)) ∈ lw_all := lw_g (lw_at lw_m11 202 rfl) rfl
theorem q2728 : (Jvm.Cond.privateMethod ({ cls := "AskedNamesModel", name := "goesOn", desc := "(II)Z" } : Jvm.MethodName)) ∈ lw_tbl := lw_at lw_m11 203 rfl
theorem q2729 : (Jvm.Cond.instanceMethod ({ cls := "AskedNamesModel", name := "goesOn", desc := "(II)Z" } : Jvm.MethodName)) ∈ lw_all := lw_g (lw_at lw_m11 204 rfl) rfl
theorem q2730 : (Jvm.Cond.code ({ cls := "AskedNamesModel", name := "goesOn", desc := "(II)Z" } : Jvm.MethodName) prog_25_method_69_code (4 : Nat) (Option.some Jvm.ClassFile.FieldType.boolean)) ∈ lw_all := lw_g (lw_at lw_m11 205 rfl) rfl
theorem q2731 : (Jvm.Cond.methodLink "AskedNamesModel" (449 : Nat) ({ cls := "AskedNamesModel", name := "nextWay", desc := "(III)I" } : Jvm.MethodName)) ∈ lw_all := lw_g (lw_at lw_m11 206 rfl) rfl
theorem q2732 : (Jvm.Cond.privateMethod ({ cls := "AskedNamesModel", name := "nextWay", desc := "(III)I" } : Jvm.MethodName)) ∈ lw_tbl := lw_at lw_m11 207 rfl
theorem q2733 : (Jvm.Cond.instanceMethod ({ cls := "AskedNamesModel", name := "nextWay", desc := "(III)I" } : Jvm.MethodName)) ∈ lw_all := lw_g (lw_at lw_m11 208 rfl) rfl
theorem q2734 : (Jvm.Cond.code ({ cls := "AskedNamesModel", name := "nextWay", desc := "(III)I" } : Jvm.MethodName) prog_25_method_68_code (11 : Nat) (Option.some Jvm.ClassFile.FieldType.int)) ∈ lw_all := lw_g (lw_at lw_m11 209 rfl) rfl
theorem q2735 : (Jvm.Cond.methodLink "AskedNamesModel" (442 : Nat) ({ cls := "AskedNamesModel", name := "longestAt", desc := "(II)I" } : Jvm.MethodName)) ∈ lw_all := lw_g (lw_at lw_m11 210 rfl) rfl
theorem q2736 : (Jvm.Cond.privateMethod ({ cls := "AskedNamesModel", name := "longestAt", desc := "(II)I" } : Jvm.MethodName)) ∈ lw_tbl := lw_at lw_m11 211 rfl
theorem q2737 : (Jvm.Cond.instanceMethod ({ cls := "AskedNamesModel", name := "longestAt", desc := "(II)I" } : Jvm.MethodName)) ∈ lw_all := lw_g (lw_at lw_m11 212 rfl) rfl
theorem q2738 : (Jvm.Cond.code ({ cls := "AskedNamesModel", name := "longestAt", desc := "(II)I" } : Jvm.MethodName) prog_25_method_50_code (6 : Nat) (Option.some Jvm.ClassFile.FieldType.int)) ∈ lw_all := lw_g (lw_at lw_m11 213 rfl) rfl
theorem q2739 : (Jvm.Cond.constant "AskedNamesModel" (445 : Nat) (1000000 : Int32)) ∈ lw_all := lw_g (lw_at lw_m11 214 rfl) rfl
theorem q2740 : (Jvm.Cond.methodLink "AskedNamesModel" (446 : Nat) ({ cls := "AskedNamesModel", name := "isRoute", desc := "(IIII)Z" } : Jvm.MethodName)) ∈ lw_all := lw_g (lw_at lw_m11 215 rfl) rfl
theorem q2741 : (Jvm.Cond.privateMethod ({ cls := "AskedNamesModel", name := "isRoute", desc := "(IIII)Z" } : Jvm.MethodName)) ∈ lw_tbl := lw_at lw_m11 216 rfl
theorem q2742 : (Jvm.Cond.instanceMethod ({ cls := "AskedNamesModel", name := "isRoute", desc := "(IIII)Z" } : Jvm.MethodName)) ∈ lw_all := lw_g (lw_at lw_m11 217 rfl) rfl
theorem q2743 : (Jvm.Cond.code ({ cls := "AskedNamesModel", name := "isRoute", desc := "(IIII)Z" } : Jvm.MethodName) prog_25_method_51_code (5 : Nat) (Option.some Jvm.ClassFile.FieldType.boolean)) ∈ lw_all := lw_g (lw_at lw_m11 218 rfl) rfl
theorem q2744 : (Jvm.Cond.methodLink "AskedNamesModel" (459 : Nat) ({ cls := "AskedNamesModel", name := "removes", desc := "(II)V" } : Jvm.MethodName)) ∈ lw_all := lw_g (lw_at lw_m11 219 rfl) rfl
theorem q2745 : (Jvm.Cond.privateMethod ({ cls := "AskedNamesModel", name := "removes", desc := "(II)V" } : Jvm.MethodName)) ∈ lw_tbl := lw_at lw_m11 220 rfl
theorem q2746 : (Jvm.Cond.instanceMethod ({ cls := "AskedNamesModel", name := "removes", desc := "(II)V" } : Jvm.MethodName)) ∈ lw_all := lw_g (lw_at lw_m11 221 rfl) rfl
theorem q2747 : (Jvm.Cond.code ({ cls := "AskedNamesModel", name := "removes", desc := "(II)V" } : Jvm.MethodName) prog_25_method_66_code (4 : Nat) (Option.none : Option Jvm.ClassFile.FieldType)) ∈ lw_all := lw_g (lw_at lw_m11 222 rfl) rfl
theorem q2748 : (Jvm.Cond.methodLink "AskedNamesModel" (521 : Nat) ({ cls := "AskedNamesModel", name := "waits", desc := "(I)Z" } : Jvm.MethodName)) ∈ lw_all := lw_g (lw_at lw_m11 223 rfl) rfl
theorem q2749 : (Jvm.Cond.privateMethod ({ cls := "AskedNamesModel", name := "waits", desc := "(I)Z" } : Jvm.MethodName)) ∈ lw_tbl := lw_at lw_m11 224 rfl
theorem q2750 : (Jvm.Cond.instanceMethod ({ cls := "AskedNamesModel", name := "waits", desc := "(I)Z" } : Jvm.MethodName)) ∈ lw_all := lw_g (lw_at lw_m11 225 rfl) rfl
theorem q2751 : (Jvm.Cond.code ({ cls := "AskedNamesModel", name := "waits", desc := "(I)Z" } : Jvm.MethodName) prog_25_method_83_code (3 : Nat) (Option.some Jvm.ClassFile.FieldType.boolean)) ∈ lw_all := lw_g (lw_at lw_m11 226 rfl) rfl
theorem q2752 : (Jvm.Cond.methodLink "AskedNamesModel" (515 : Nat) ({ cls := "AskedNamesModel", name := "goesBy", desc := "()V" } : Jvm.MethodName)) ∈ lw_all := lw_g (lw_at lw_m11 227 rfl) rfl
theorem q2753 : (Jvm.Cond.privateMethod ({ cls := "AskedNamesModel", name := "goesBy", desc := "()V" } : Jvm.MethodName)) ∈ lw_tbl := lw_at lw_m11 228 rfl
theorem q2754 : (Jvm.Cond.instanceMethod ({ cls := "AskedNamesModel", name := "goesBy", desc := "()V" } : Jvm.MethodName)) ∈ lw_all := lw_g (lw_at lw_m11 229 rfl) rfl
theorem q2755 : (Jvm.Cond.code ({ cls := "AskedNamesModel", name := "goesBy", desc := "()V" } : Jvm.MethodName) prog_25_method_82_code (4 : Nat) (Option.none : Option Jvm.ClassFile.FieldType)) ∈ lw_all := lw_g (lw_at lw_m11 230 rfl) rfl
theorem q2756 : (Jvm.Cond.methodLink "AskedNamesModel" (506 : Nat) ({ cls := "AskedNamesModel", name := "endsAll", desc := "()V" } : Jvm.MethodName)) ∈ lw_all := lw_g (lw_at lw_m11 231 rfl) rfl
theorem q2757 : (Jvm.Cond.privateMethod ({ cls := "AskedNamesModel", name := "endsAll", desc := "()V" } : Jvm.MethodName)) ∈ lw_tbl := lw_at lw_m11 232 rfl
theorem q2758 : (Jvm.Cond.instanceMethod ({ cls := "AskedNamesModel", name := "endsAll", desc := "()V" } : Jvm.MethodName)) ∈ lw_all := lw_g (lw_at lw_m11 233 rfl) rfl
theorem q2759 : (Jvm.Cond.code ({ cls := "AskedNamesModel", name := "endsAll", desc := "()V" } : Jvm.MethodName) prog_25_method_79_code (5 : Nat) (Option.none : Option Jvm.ClassFile.FieldType)) ∈ lw_all := lw_g (lw_at lw_m11 234 rfl) rfl
theorem q2760 : (Jvm.Cond.methodLink "AskedNamesModel" (509 : Nat) ({ cls := "AskedNamesModel", name := "comes", desc := "(I)V" } : Jvm.MethodName)) ∈ lw_all := lw_g (lw_at lw_m11 235 rfl) rfl
theorem q2761 : (Jvm.Cond.privateMethod ({ cls := "AskedNamesModel", name := "comes", desc := "(I)V" } : Jvm.MethodName)) ∈ lw_tbl := lw_at lw_m11 236 rfl
theorem q2762 : (Jvm.Cond.instanceMethod ({ cls := "AskedNamesModel", name := "comes", desc := "(I)V" } : Jvm.MethodName)) ∈ lw_all := lw_g (lw_at lw_m11 237 rfl) rfl
theorem q2763 : (Jvm.Cond.code ({ cls := "AskedNamesModel", name := "comes", desc := "(I)V" } : Jvm.MethodName) prog_25_method_80_code (2 : Nat) (Option.none : Option Jvm.ClassFile.FieldType)) ∈ lw_all := lw_g (lw_at lw_m11 238 rfl) rfl
theorem q2764 : (Jvm.Cond.methodLink "AskedNamesModel" (500 : Nat) ({ cls := "AskedNamesModel", name := "dataCome", desc := "(III)V" } : Jvm.MethodName)) ∈ lw_all := lw_g (lw_at lw_m11 239 rfl) rfl
theorem q2765 : (Jvm.Cond.privateMethod ({ cls := "AskedNamesModel", name := "dataCome", desc := "(III)V" } : Jvm.MethodName)) ∈ lw_tbl := lw_at lw_m12 0 rfl
theorem q2766 : (Jvm.Cond.instanceMethod ({ cls := "AskedNamesModel", name := "dataCome", desc := "(III)V" } : Jvm.MethodName)) ∈ lw_all := lw_g (lw_at lw_m12 1 rfl) rfl
theorem q2767 : (Jvm.Cond.code ({ cls := "AskedNamesModel", name := "dataCome", desc := "(III)V" } : Jvm.MethodName) prog_25_method_77_code (6 : Nat) (Option.none : Option Jvm.ClassFile.FieldType)) ∈ lw_all := lw_g (lw_at lw_m12 2 rfl) rfl
theorem q2768 : (Jvm.Cond.methodLink "AskedNamesModel" (490 : Nat) ({ cls := "AskedNamesModel", name := "firstFor", desc := "(IIZ)I" } : Jvm.MethodName)) ∈ lw_all := lw_g (lw_at lw_m12 3 rfl) rfl
theorem q2769 : (Jvm.Cond.privateMethod ({ cls := "AskedNamesModel", name := "firstFor", desc := "(IIZ)I" } : Jvm.MethodName)) ∈ lw_tbl := lw_at lw_m12 4 rfl
theorem q2770 : (Jvm.Cond.instanceMethod ({ cls := "AskedNamesModel", name := "firstFor", desc := "(IIZ)I" } : Jvm.MethodName)) ∈ lw_all := lw_g (lw_at lw_m12 5 rfl) rfl
theorem q2771 : (Jvm.Cond.code ({ cls := "AskedNamesModel", name := "firstFor", desc := "(IIZ)I" } : Jvm.MethodName) prog_25_method_76_code (5 : Nat) (Option.some Jvm.ClassFile.FieldType.int)) ∈ lw_all := lw_g (lw_at lw_m12 6 rfl) rfl
theorem q2772 : (Jvm.Cond.methodLink "AskedNamesModel" (494 : Nat) ({ cls := "AskedNamesModel", name := "answers", desc := "(II)V" } : Jvm.MethodName)) ∈ lw_all := lw_g (lw_at lw_m12 7 rfl) rfl
theorem q2773 : (Jvm.Cond.privateMethod ({ cls := "AskedNamesModel", name := "answers", desc := "(II)V" } : Jvm.MethodName)) ∈ lw_tbl := lw_at lw_m12 8 rfl
theorem q2774 : (Jvm.Cond.instanceMethod ({ cls := "AskedNamesModel", name := "answers", desc := "(II)V" } : Jvm.MethodName)) ∈ lw_all := lw_g (lw_at lw_m12 9 rfl) rfl
theorem q2775 : (Jvm.Cond.code ({ cls := "AskedNamesModel", name := "answers", desc := "(II)V" } : Jvm.MethodName) prog_25_method_75_code (4 : Nat) (Option.none : Option Jvm.ClassFile.FieldType)) ∈ lw_all := lw_g (lw_at lw_m12 10 rfl) rfl
theorem q2776 : (Jvm.Cond.methodLink "AskedNamesModel" (503 : Nat) ({ cls := "AskedNamesModel", name := "nackComes", desc := "(IIII)V" } : Jvm.MethodName)) ∈ lw_all := lw_g (lw_at lw_m12 11 rfl) rfl
theorem q2777 : (Jvm.Cond.privateMethod ({ cls := "AskedNamesModel", name := "nackComes", desc := "(IIII)V" } : Jvm.MethodName)) ∈ lw_tbl := lw_at lw_m12 12 rfl
theorem q2778 : (Jvm.Cond.instanceMethod ({ cls := "AskedNamesModel", name := "nackComes", desc := "(IIII)V" } : Jvm.MethodName)) ∈ lw_all := lw_g (lw_at lw_m12 13 rfl) rfl
theorem q2779 : (Jvm.Cond.code ({ cls := "AskedNamesModel", name := "nackComes", desc := "(IIII)V" } : Jvm.MethodName) prog_25_method_78_code (7 : Nat) (Option.none : Option Jvm.ClassFile.FieldType)) ∈ lw_all := lw_g (lw_at lw_m12 14 rfl) rfl
theorem q2780 : (Jvm.Cond.methodLink "AskedNamesModel" (512 : Nat) ({ cls := "AskedNamesModel", name := "moves", desc := "(II)V" } : Jvm.MethodName)) ∈ lw_all := lw_g (lw_at lw_m12 15 rfl) rfl
theorem q2781 : (Jvm.Cond.privateMethod ({ cls := "AskedNamesModel", name := "moves", desc := "(II)V" } : Jvm.MethodName)) ∈ lw_tbl := lw_at lw_m12 16 rfl
theorem q2782 : (Jvm.Cond.instanceMethod ({ cls := "AskedNamesModel", name := "moves", desc := "(II)V" } : Jvm.MethodName)) ∈ lw_all := lw_g (lw_at lw_m12 17 rfl) rfl
theorem q2783 : (Jvm.Cond.code ({ cls := "AskedNamesModel", name := "moves", desc := "(II)V" } : Jvm.MethodName) prog_25_method_81_code (3 : Nat) (Option.none : Option Jvm.ClassFile.FieldType)) ∈ lw_all := lw_g (lw_at lw_m12 18 rfl) rfl
theorem q2784 : (Jvm.Cond.methodLink "AskedNamesModel" (524 : Nat) ({ cls := "AskedNamesModel", name := "changes", desc := "(IIZ)Z" } : Jvm.MethodName)) ∈ lw_all := lw_g (lw_at lw_m12 19 rfl) rfl
theorem q2785 : (Jvm.Cond.privateMethod ({ cls := "AskedNamesModel", name := "changes", desc := "(IIZ)Z" } : Jvm.MethodName)) ∈ lw_tbl := lw_at lw_m12 20 rfl
theorem q2786 : (Jvm.Cond.instanceMethod ({ cls := "AskedNamesModel", name := "changes", desc := "(IIZ)Z" } : Jvm.MethodName)) ∈ lw_all := lw_g (lw_at lw_m12 21 rfl) rfl
theorem q2787 : (Jvm.Cond.code ({ cls := "AskedNamesModel", name := "changes", desc := "(IIZ)Z" } : Jvm.MethodName) prog_25_method_85_code (5 : Nat) (Option.some Jvm.ClassFile.FieldType.boolean)) ∈ lw_all := lw_g (lw_at lw_m12 22 rfl) rfl
theorem q2788 : (Jvm.Cond.methodLink "AskedNamesModel" (546 : Nat) ({ cls := "AskedNamesModel", name := "entriesAll", desc := "()I" } : Jvm.MethodName)) ∈ lw_all := lw_g (lw_at lw_m12 23 rfl) rfl
theorem q2789 : (Jvm.Cond.privateMethod ({ cls := "AskedNamesModel", name := "entriesAll", desc := "()I" } : Jvm.MethodName)) ∈ lw_tbl := lw_at lw_m12 24 rfl
theorem q2790 : (Jvm.Cond.instanceMethod ({ cls := "AskedNamesModel", name := "entriesAll", desc := "()I" } : Jvm.MethodName)) ∈ lw_all := lw_g (lw_at lw_m12 25 rfl) rfl
theorem q2791 : (Jvm.Cond.code ({ cls := "AskedNamesModel", name := "entriesAll", desc := "()I" } : Jvm.MethodName) prog_25_method_91_code (3 : Nat) (Option.some Jvm.ClassFile.FieldType.int)) ∈ lw_all := lw_g (lw_at lw_m12 26 rfl) rfl
theorem q2793 : (Jvm.Cond.instanceMethod ({ cls := "AskedNamesModel", name := "state", desc := "(IIII)I" } : Jvm.MethodName)) ∈ lw_all := lw_g (lw_at lw_m12 28 rfl) rfl
theorem q2794 : (Jvm.Cond.selects "AskedNamesModel" ({ cls := "AskedNamesModel", name := "state", desc := "(IIII)I" } : Jvm.MethodName) ({ cls := "AskedNamesModel", name := "state", desc := "(IIII)I" } : Jvm.MethodName)) ∈ lw_all := lw_g (lw_at lw_m12 29 rfl) rfl
theorem q2795 : (Jvm.Cond.code ({ cls := "AskedNamesModel", name := "state", desc := "(IIII)I" } : Jvm.MethodName) prog_25_method_98_code (5 : Nat) (Option.some Jvm.ClassFile.FieldType.int)) ∈ lw_all := lw_g (lw_at lw_m12 30 rfl) rfl
theorem q2796 : (Jvm.Cond.methodLink "AskedNamesModel" (564 : Nat) ({ cls := "AskedNamesModel", name := "layState", desc := "(III)Z" } : Jvm.MethodName)) ∈ lw_all := lw_g (lw_at lw_m12 31 rfl) rfl
theorem q2797 : (Jvm.Cond.privateMethod ({ cls := "AskedNamesModel", name := "layState", desc := "(III)Z" } : Jvm.MethodName)) ∈ lw_tbl := lw_at lw_m12 32 rfl
theorem q2798 : (Jvm.Cond.instanceMethod ({ cls := "AskedNamesModel", name := "layState", desc := "(III)Z" } : Jvm.MethodName)) ∈ lw_all := lw_g (lw_at lw_m12 33 rfl) rfl
theorem q2799 : (Jvm.Cond.code ({ cls := "AskedNamesModel", name := "layState", desc := "(III)Z" } : Jvm.MethodName) prog_25_method_95_code (4 : Nat) (Option.some Jvm.ClassFile.FieldType.boolean)) ∈ lw_all := lw_g (lw_at lw_m12 34 rfl) rfl
theorem q2800 : (Jvm.Cond.methodLink "AskedNamesModel" (567 : Nat) ({ cls := "AskedNamesModel", name := "ofState", desc := "(I)I" } : Jvm.MethodName)) ∈ lw_all := lw_g (lw_at lw_m12 35 rfl) rfl
theorem q2801 : (Jvm.Cond.privateMethod ({ cls := "AskedNamesModel", name := "ofState", desc := "(I)I" } : Jvm.MethodName)) ∈ lw_tbl := lw_at lw_m12 36 rfl
theorem q2802 : (Jvm.Cond.instanceMethod ({ cls := "AskedNamesModel", name := "ofState", desc := "(I)I" } : Jvm.MethodName)) ∈ lw_all := lw_g (lw_at lw_m12 37 rfl) rfl
theorem q2803 : (Jvm.Cond.code ({ cls := "AskedNamesModel", name := "ofState", desc := "(I)I" } : Jvm.MethodName) prog_25_method_97_code (4 : Nat) (Option.some Jvm.ClassFile.FieldType.int)) ∈ lw_all := lw_g (lw_at lw_m12 38 rfl) rfl
theorem q2804 : (Jvm.Cond.methodLink "AskedNamesModel" (558 : Nat) ({ cls := "AskedNamesModel", name := "ones", desc := "(I)I" } : Jvm.MethodName)) ∈ lw_all := lw_g (lw_at lw_m12 39 rfl) rfl
theorem q2805 : (Jvm.Cond.static ({ cls := "AskedNamesModel", name := "ones", desc := "(I)I" } : Jvm.MethodName)) ∈ lw_all := lw_g (lw_at lw_m12 40 rfl) rfl
theorem q2806 : (Jvm.Cond.code ({ cls := "AskedNamesModel", name := "ones", desc := "(I)I" } : Jvm.MethodName) prog_25_method_7_code (3 : Nat) (Option.some Jvm.ClassFile.FieldType.int)) ∈ lw_all := lw_g (lw_at lw_m12 41 rfl) rfl
theorem q2807 : (Jvm.Cond.methodLink "AskedNamesModel" (561 : Nat) ({ cls := "AskedNamesModel", name := "onesL", desc := "(J)I" } : Jvm.MethodName)) ∈ lw_all := lw_g (lw_at lw_m12 42 rfl) rfl
theorem q2808 : (Jvm.Cond.static ({ cls := "AskedNamesModel", name := "onesL", desc := "(J)I" } : Jvm.MethodName)) ∈ lw_all := lw_g (lw_at lw_m12 43 rfl) rfl
theorem q2809 : (Jvm.Cond.code ({ cls := "AskedNamesModel", name := "onesL", desc := "(J)I" } : Jvm.MethodName) prog_25_method_96_code (4 : Nat) (Option.some Jvm.ClassFile.FieldType.int)) ∈ lw_all := lw_g (lw_at lw_m12 44 rfl) rfl
theorem q2811 : (Jvm.Cond.instanceMethod ({ cls := "AskedNamesModel", name := "stored", desc := "(IIIIII)I" } : Jvm.MethodName)) ∈ lw_all := lw_g (lw_at lw_m12 46 rfl) rfl
theorem q2812 : (Jvm.Cond.selects "AskedNamesModel" ({ cls := "AskedNamesModel", name := "stored", desc := "(IIIIII)I" } : Jvm.MethodName) ({ cls := "AskedNamesModel", name := "stored", desc := "(IIIIII)I" } : Jvm.MethodName)) ∈ lw_all := lw_g (lw_at lw_m12 47 rfl) rfl
theorem q2813 : (Jvm.Cond.code ({ cls := "AskedNamesModel", name := "stored", desc := "(IIIIII)I" } : Jvm.MethodName) prog_25_method_99_code (8 : Nat) (Option.some Jvm.ClassFile.FieldType.int)) ∈ lw_all := lw_g (lw_at lw_m12 48 rfl) rfl
theorem q2815 : (Jvm.Cond.instanceMethod ({ cls := "AskedNamesModel", name := "entry", desc := "(IIIIII)I" } : Jvm.MethodName)) ∈ lw_all := lw_g (lw_at lw_m12 50 rfl) rfl
theorem q2816 : (Jvm.Cond.selects "AskedNamesModel" ({ cls := "AskedNamesModel", name := "entry", desc := "(IIIIII)I" } : Jvm.MethodName) ({ cls := "AskedNamesModel", name := "entry", desc := "(IIIIII)I" } : Jvm.MethodName)) ∈ lw_all := lw_g (lw_at lw_m12 51 rfl) rfl
theorem q2817 : (Jvm.Cond.code ({ cls := "AskedNamesModel", name := "entry", desc := "(IIIIII)I" } : Jvm.MethodName) prog_25_method_100_code (8 : Nat) (Option.some Jvm.ClassFile.FieldType.int)) ∈ lw_all := lw_g (lw_at lw_m12 52 rfl) rfl
theorem q2819 : (Jvm.Cond.instanceMethod ({ cls := "AskedNamesModel", name := "why", desc := "(IIII)I" } : Jvm.MethodName)) ∈ lw_all := lw_g (lw_at lw_m12 54 rfl) rfl
theorem q2820 : (Jvm.Cond.selects "AskedNamesModel" ({ cls := "AskedNamesModel", name := "why", desc := "(IIII)I" } : Jvm.MethodName) ({ cls := "AskedNamesModel", name := "why", desc := "(IIII)I" } : Jvm.MethodName)) ∈ lw_all := lw_g (lw_at lw_m12 55 rfl) rfl
theorem q2821 : (Jvm.Cond.code ({ cls := "AskedNamesModel", name := "why", desc := "(IIII)I" } : Jvm.MethodName) prog_25_method_102_code (5 : Nat) (Option.some Jvm.ClassFile.FieldType.int)) ∈ lw_all := lw_g (lw_at lw_m12 56 rfl) rfl
theorem q2822 : (Jvm.Cond.methodLink "AskedNamesModel" (570 : Nat) ({ cls := "AskedNamesModel", name := "ofAsk", desc := "(II)I" } : Jvm.MethodName)) ∈ lw_all := lw_g (lw_at lw_m12 57 rfl) rfl
theorem q2823 : (Jvm.Cond.privateMethod ({ cls := "AskedNamesModel", name := "ofAsk", desc := "(II)I" } : Jvm.MethodName)) ∈ lw_tbl := lw_at lw_m12 58 rfl
theorem q2824 : (Jvm.Cond.instanceMethod ({ cls := "AskedNamesModel", name := "ofAsk", desc := "(II)I" } : Jvm.MethodName)) ∈ lw_all := lw_g (lw_at lw_m12 59 rfl) rfl
theorem q2825 : (Jvm.Cond.code ({ cls := "AskedNamesModel", name := "ofAsk", desc := "(II)I" } : Jvm.MethodName) prog_25_method_101_code (4 : Nat) (Option.some Jvm.ClassFile.FieldType.int)) ∈ lw_all := lw_g (lw_at lw_m12 60 rfl) rfl
theorem q2827 : (Jvm.Cond.instanceMethod ({ cls := "AskedNamesModel", name := "alone", desc := "(IIIII)I" } : Jvm.MethodName)) ∈ lw_all := lw_g (lw_at lw_m12 62 rfl) rfl
theorem q2828 : (Jvm.Cond.selects "AskedNamesModel" ({ cls := "AskedNamesModel", name := "alone", desc := "(IIIII)I" } : Jvm.MethodName) ({ cls := "AskedNamesModel", name := "alone", desc := "(IIIII)I" } : Jvm.MethodName)) ∈ lw_all := lw_g (lw_at lw_m12 63 rfl) rfl
theorem q2829 : (Jvm.Cond.code ({ cls := "AskedNamesModel", name := "alone", desc := "(IIIII)I" } : Jvm.MethodName) prog_25_method_103_code (6 : Nat) (Option.some Jvm.ClassFile.FieldType.int)) ∈ lw_all := lw_g (lw_at lw_m12 64 rfl) rfl
theorem q2830 : (Jvm.Cond.methodLink "AskedNamesModel" (573 : Nat) ({ cls := "AskedNamesModel", name := "isName", desc := "(I)Z" } : Jvm.MethodName)) ∈ lw_all := lw_g (lw_at lw_m12 65 rfl) rfl
theorem q2831 : (Jvm.Cond.static ({ cls := "AskedNamesModel", name := "isName", desc := "(I)Z" } : Jvm.MethodName)) ∈ lw_all := lw_g (lw_at lw_m12 66 rfl) rfl
theorem q2832 : (Jvm.Cond.code ({ cls := "AskedNamesModel", name := "isName", desc := "(I)Z" } : Jvm.MethodName) prog_25_method_49_code (3 : Nat) (Option.some Jvm.ClassFile.FieldType.boolean)) ∈ lw_all := lw_g (lw_at lw_m12 67 rfl) rfl
theorem q2834 : (Jvm.Cond.instanceMethod ({ cls := "AskedNamesModel", name := "table", desc := "(III)I" } : Jvm.MethodName)) ∈ lw_all := lw_g (lw_at lw_m12 69 rfl) rfl
theorem q2835 : (Jvm.Cond.selects "AskedNamesModel" ({ cls := "AskedNamesModel", name := "table", desc := "(III)I" } : Jvm.MethodName) ({ cls := "AskedNamesModel", name := "table", desc := "(III)I" } : Jvm.MethodName)) ∈ lw_all := lw_g (lw_at lw_m12 70 rfl) rfl
theorem q2836 : (Jvm.Cond.code ({ cls := "AskedNamesModel", name := "table", desc := "(III)I" } : Jvm.MethodName) prog_25_method_105_code (6 : Nat) (Option.some Jvm.ClassFile.FieldType.int)) ∈ lw_all := lw_g (lw_at lw_m12 71 rfl) rfl
theorem q2837 : (Jvm.Cond.methodLink "AskedNamesModel" (576 : Nat) ({ cls := "AskedNamesModel", name := "rowsAt", desc := "(I)I" } : Jvm.MethodName)) ∈ lw_all := lw_g (lw_at lw_m12 72 rfl) rfl
theorem q2838 : (Jvm.Cond.privateMethod ({ cls := "AskedNamesModel", name := "rowsAt", desc := "(I)I" } : Jvm.MethodName)) ∈ lw_tbl := lw_at lw_m12 73 rfl
theorem q2839 : (Jvm.Cond.instanceMethod ({ cls := "AskedNamesModel", name := "rowsAt", desc := "(I)I" } : Jvm.MethodName)) ∈ lw_all := lw_g (lw_at lw_m12 74 rfl) rfl
theorem q2840 : (Jvm.Cond.code ({ cls := "AskedNamesModel", name := "rowsAt", desc := "(I)I" } : Jvm.MethodName) prog_25_method_104_code (7 : Nat) (Option.some Jvm.ClassFile.FieldType.int)) ∈ lw_all := lw_g (lw_at lw_m12 75 rfl) rfl
theorem q2842 : (Jvm.Cond.instanceMethod ({ cls := "AskedNamesModel", name := "ways", desc := "(IIIZ)I" } : Jvm.MethodName)) ∈ lw_all := lw_g (lw_at lw_m12 77 rfl) rfl
theorem q2843 : (Jvm.Cond.selects "AskedNamesModel" ({ cls := "AskedNamesModel", name := "ways", desc := "(IIIZ)I" } : Jvm.MethodName) ({ cls := "AskedNamesModel", name := "ways", desc := "(IIIZ)I" } : Jvm.MethodName)) ∈ lw_all := lw_g (lw_at lw_m12 78 rfl) rfl
theorem q2844 : (Jvm.Cond.code ({ cls := "AskedNamesModel", name := "ways", desc := "(IIIZ)I" } : Jvm.MethodName) prog_25_method_106_code (9 : Nat) (Option.some Jvm.ClassFile.FieldType.int)) ∈ lw_all := lw_g (lw_at lw_m12 79 rfl) rfl
theorem q2846 : (Jvm.Cond.instanceMethod ({ cls := "AskedNamesModel", name := "trail", desc := "(IIII)I" } : Jvm.MethodName)) ∈ lw_all := lw_g (lw_at lw_m12 81 rfl) rfl
theorem q2847 : (Jvm.Cond.selects "AskedNamesModel" ({ cls := "AskedNamesModel", name := "trail", desc := "(IIII)I" } : Jvm.MethodName) ({ cls := "AskedNamesModel", name := "trail", desc := "(IIII)I" } : Jvm.MethodName)) ∈ lw_all := lw_g (lw_at lw_m12 82 rfl) rfl
theorem q2848 : (Jvm.Cond.code ({ cls := "AskedNamesModel", name := "trail", desc := "(IIII)I" } : Jvm.MethodName) prog_25_method_108_code (6 : Nat) (Option.some Jvm.ClassFile.FieldType.int)) ∈ lw_all := lw_g (lw_at lw_m12 83 rfl) rfl
theorem q2849 : (Jvm.Cond.methodLink "AskedNamesModel" (582 : Nat) ({ cls := "AskedNamesModel", name := "walks", desc := "(II)I" } : Jvm.MethodName)) ∈ lw_all := lw_g (lw_at lw_m12 84 rfl) rfl
theorem q2850 : (Jvm.Cond.privateMethod ({ cls := "AskedNamesModel", name := "walks", desc := "(II)I" } : Jvm.MethodName)) ∈ lw_tbl := lw_at lw_m12 85 rfl
theorem q2851 : (Jvm.Cond.instanceMethod ({ cls := "AskedNamesModel", name := "walks", desc := "(II)I" } : Jvm.MethodName)) ∈ lw_all := lw_g (lw_at lw_m12 86 rfl) rfl
theorem q2852 : (Jvm.Cond.code ({ cls := "AskedNamesModel", name := "walks", desc := "(II)I" } : Jvm.MethodName) prog_25_method_107_code (7 : Nat) (Option.some Jvm.ClassFile.FieldType.int)) ∈ lw_all := lw_g (lw_at lw_m12 87 rfl) rfl
theorem q2854 : (Jvm.Cond.instanceMethod ({ cls := "AskedNamesModel", name := "far", desc := "(III)I" } : Jvm.MethodName)) ∈ lw_all := lw_g (lw_at lw_m12 89 rfl) rfl
theorem q2855 : (Jvm.Cond.selects "AskedNamesModel" ({ cls := "AskedNamesModel", name := "far", desc := "(III)I" } : Jvm.MethodName) ({ cls := "AskedNamesModel", name := "far", desc := "(III)I" } : Jvm.MethodName)) ∈ lw_all := lw_g (lw_at lw_m12 90 rfl) rfl
theorem q2856 : (Jvm.Cond.code ({ cls := "AskedNamesModel", name := "far", desc := "(III)I" } : Jvm.MethodName) prog_25_method_109_code (7 : Nat) (Option.some Jvm.ClassFile.FieldType.int)) ∈ lw_all := lw_g (lw_at lw_m12 91 rfl) rfl
theorem q2858 : (Jvm.Cond.instanceMethod ({ cls := "AskedNamesModel", name := "fact", desc := "(III)I" } : Jvm.MethodName)) ∈ lw_all := lw_g (lw_at lw_m12 93 rfl) rfl
theorem q2859 : (Jvm.Cond.selects "AskedNamesModel" ({ cls := "AskedNamesModel", name := "fact", desc := "(III)I" } : Jvm.MethodName) ({ cls := "AskedNamesModel", name := "fact", desc := "(III)I" } : Jvm.MethodName)) ∈ lw_all := lw_g (lw_at lw_m12 94 rfl) rfl
theorem q2860 : (Jvm.Cond.code ({ cls := "AskedNamesModel", name := "fact", desc := "(III)I" } : Jvm.MethodName) prog_25_method_113_code (4 : Nat) (Option.some Jvm.ClassFile.FieldType.int)) ∈ lw_all := lw_g (lw_at lw_m12 95 rfl) rfl
theorem q2861 : (Jvm.Cond.methodLink "AskedNamesModel" (588 : Nat) ({ cls := "AskedNamesModel", name := "hasLog", desc := "(I)Z" } : Jvm.MethodName)) ∈ lw_all := lw_g (lw_at lw_m12 96 rfl) rfl
theorem q2862 : (Jvm.Cond.privateMethod ({ cls := "AskedNamesModel", name := "hasLog", desc := "(I)Z" } : Jvm.MethodName)) ∈ lw_tbl := lw_at lw_m12 97 rfl
theorem q2863 : (Jvm.Cond.instanceMethod ({ cls := "AskedNamesModel", name := "hasLog", desc := "(I)Z" } : Jvm.MethodName)) ∈ lw_all := lw_g (lw_at lw_m12 98 rfl) rfl
theorem q2864 : (Jvm.Cond.code ({ cls := "AskedNamesModel", name := "hasLog", desc := "(I)Z" } : Jvm.MethodName) prog_25_method_112_code (2 : Nat) (Option.some Jvm.ClassFile.FieldType.boolean)) ∈ lw_all := lw_g (lw_at lw_m12 99 rfl) rfl
theorem q2865 : (Jvm.Cond.methodLink "AskedNamesModel" (591 : Nat) ({ cls := "AskedNamesModel", name := "facts", desc := "()I" } : Jvm.MethodName)) ∈ lw_all := lw_g (lw_at lw_m12 100 rfl) rfl
theorem q2866 : (Jvm.Cond.privateMethod ({ cls := "AskedNamesModel", name := "facts", desc := "()I" } : Jvm.MethodName)) ∈ lw_tbl := lw_at lw_m12 101 rfl
theorem q2867 : (Jvm.Cond.instanceMethod ({ cls := "AskedNamesModel", name := "facts", desc := "()I" } : Jvm.MethodName)) ∈ lw_all := lw_g (lw_at lw_m12 102 rfl) rfl
theorem q2868 : (Jvm.Cond.code ({ cls := "AskedNamesModel", name := "facts", desc := "()I" } : Jvm.MethodName) prog_25_method_110_code (1 : Nat) (Option.some Jvm.ClassFile.FieldType.int)) ∈ lw_all := lw_g (lw_at lw_m12 103 rfl) rfl
theorem q2869 : (Jvm.Cond.methodLink "AskedNamesModel" (594 : Nat) ({ cls := "AskedNamesModel", name := "factOf", desc := "(II)I" } : Jvm.MethodName)) ∈ lw_all := lw_g (lw_at lw_m12 104 rfl) rfl
theorem q2870 : (Jvm.Cond.privateMethod ({ cls := "AskedNamesModel", name := "factOf", desc := "(II)I" } : Jvm.MethodName)) ∈ lw_tbl := lw_at lw_m12 105 rfl
theorem q2871 : (Jvm.Cond.instanceMethod ({ cls := "AskedNamesModel", name := "factOf", desc := "(II)I" } : Jvm.MethodName)) ∈ lw_all := lw_g (lw_at lw_m12 106 rfl) rfl
theorem q2872 : (Jvm.Cond.code ({ cls := "AskedNamesModel", name := "factOf", desc := "(II)I" } : Jvm.MethodName) prog_25_method_111_code (3 : Nat) (Option.some Jvm.ClassFile.FieldType.int)) ∈ lw_all := lw_g (lw_at lw_m12 107 rfl) rfl
theorem q2874 : (Jvm.Cond.instanceMethod ({ cls := "AskedNamesModel", name := "fits", desc := "(IIII)I" } : Jvm.MethodName)) ∈ lw_all := lw_g (lw_at lw_m12 109 rfl) rfl
theorem q2875 : (Jvm.Cond.selects "AskedNamesModel" ({ cls := "AskedNamesModel", name := "fits", desc := "(IIII)I" } : Jvm.MethodName) ({ cls := "AskedNamesModel", name := "fits", desc := "(IIII)I" } : Jvm.MethodName)) ∈ lw_all := lw_g (lw_at lw_m12 110 rfl) rfl
theorem q2876 : (Jvm.Cond.code ({ cls := "AskedNamesModel", name := "fits", desc := "(IIII)I" } : Jvm.MethodName) prog_25_method_117_code (6 : Nat) (Option.some Jvm.ClassFile.FieldType.int)) ∈ lw_all := lw_g (lw_at lw_m12 111 rfl) rfl
theorem q2877 : (Jvm.Cond.methodLink "AskedNamesModel" (603 : Nat) ({ cls := "AskedNamesModel", name := "isSo", desc := "()Z" } : Jvm.MethodName)) ∈ lw_all := lw_g (lw_at lw_m12 112 rfl) rfl
theorem q2878 : (Jvm.Cond.privateMethod ({ cls := "AskedNamesModel", name := "isSo", desc := "()Z" } : Jvm.MethodName)) ∈ lw_tbl := lw_at lw_m12 113 rfl
theorem q2879 : (Jvm.Cond.instanceMethod ({ cls := "AskedNamesModel", name := "isSo", desc := "()Z" } : Jvm.MethodName)) ∈ lw_all := lw_g (lw_at lw_m12 114 rfl) rfl
theorem q2880 : (Jvm.Cond.code ({ cls := "AskedNamesModel", name := "isSo", desc := "()Z" } : Jvm.MethodName) prog_25_method_114_code (4 : Nat) (Option.some Jvm.ClassFile.FieldType.boolean)) ∈ lw_all := lw_g (lw_at lw_m12 115 rfl) rfl
theorem q2881 : (Jvm.Cond.methodLink "AskedNamesModel" (606 : Nat) ({ cls := "AskedNamesModel", name := "noteFit", desc := "(II)V" } : Jvm.MethodName)) ∈ lw_all := lw_g (lw_at lw_m12 116 rfl) rfl
theorem q2882 : (Jvm.Cond.privateMethod ({ cls := "AskedNamesModel", name := "noteFit", desc := "(II)V" } : Jvm.MethodName)) ∈ lw_tbl := lw_at lw_m12 117 rfl
theorem q2883 : (Jvm.Cond.instanceMethod ({ cls := "AskedNamesModel", name := "noteFit", desc := "(II)V" } : Jvm.MethodName)) ∈ lw_all := lw_g (lw_at lw_m12 118 rfl) rfl
theorem q2884 : (Jvm.Cond.code ({ cls := "AskedNamesModel", name := "noteFit", desc := "(II)V" } : Jvm.MethodName) prog_25_method_115_code (4 : Nat) (Option.none : Option Jvm.ClassFile.FieldType)) ∈ lw_all := lw_g (lw_at lw_m12 119 rfl) rfl
theorem q2885 : (Jvm.Cond.methodLink "AskedNamesModel" (609 : Nat) ({ cls := "AskedNamesModel", name := "askWhat", desc := "()I" } : Jvm.MethodName)) ∈ lw_all := lw_g (lw_at lw_m12 120 rfl) rfl
theorem q2886 : (Jvm.Cond.privateMethod ({ cls := "AskedNamesModel", name := "askWhat", desc := "()I" } : Jvm.MethodName)) ∈ lw_tbl := lw_at lw_m12 121 rfl
theorem q2887 : (Jvm.Cond.instanceMethod ({ cls := "AskedNamesModel", name := "askWhat", desc := "()I" } : Jvm.MethodName)) ∈ lw_all := lw_g (lw_at lw_m12 122 rfl) rfl
theorem q2888 : (Jvm.Cond.code ({ cls := "AskedNamesModel", name := "askWhat", desc := "()I" } : Jvm.MethodName) prog_25_method_116_code (5 : Nat) (Option.some Jvm.ClassFile.FieldType.int)) ∈ lw_all := lw_g (lw_at lw_m12 123 rfl) rfl
theorem q2890 : (Jvm.Cond.instanceMethod ({ cls := "AskedNamesModel", name := "drawn", desc := "(IIII)I" } : Jvm.MethodName)) ∈ lw_all := lw_g (lw_at lw_m12 125 rfl) rfl
theorem q2891 : (Jvm.Cond.selects "AskedNamesModel" ({ cls := "AskedNamesModel", name := "drawn", desc := "(IIII)I" } : Jvm.MethodName) ({ cls := "AskedNamesModel", name := "drawn", desc := "(IIII)I" } : Jvm.MethodName)) ∈ lw_all := lw_g (lw_at lw_m12 126 rfl) rfl
theorem q2892 : (Jvm.Cond.code ({ cls := "AskedNamesModel", name := "drawn", desc := "(IIII)I" } : Jvm.MethodName) prog_25_method_120_code (6 : Nat) (Option.some Jvm.ClassFile.FieldType.int)) ∈ lw_all := lw_g (lw_at lw_m12 127 rfl) rfl
theorem q2893 : (Jvm.Cond.methodLink "AskedNamesModel" (619 : Nat) ({ cls := "AskedNamesModel", name := "drawDeed", desc := "(I)V" } : Jvm.MethodName)) ∈ lw_all := lw_g (lw_at lw_m12 128 rfl) rfl
theorem q2894 : (Jvm.Cond.privateMethod ({ cls := "AskedNamesModel", name := "drawDeed", desc := "(I)V" } : Jvm.MethodName)) ∈ lw_tbl := lw_at lw_m12 129 rfl
theorem q2895 : (Jvm.Cond.instanceMethod ({ cls := "AskedNamesModel", name := "drawDeed", desc := "(I)V" } : Jvm.MethodName)) ∈ lw_all := lw_g (lw_at lw_m12 130 rfl) rfl
theorem q2896 : (Jvm.Cond.code ({ cls := "AskedNamesModel", name := "drawDeed", desc := "(I)V" } : Jvm.MethodName) prog_25_method_119_code (6 : Nat) (Option.none : Option Jvm.ClassFile.FieldType)) ∈ lw_all := lw_g (lw_at lw_m12 131 rfl) rfl
theorem q2897 : (Jvm.Cond.methodLink "AskedNamesModel" (616 : Nat) ({ cls := "AskedNamesModel", name := "draw", desc := "(I)I" } : Jvm.MethodName)) ∈ lw_all := lw_g (lw_at lw_m12 132 rfl) rfl
theorem q2898 : (Jvm.Cond.privateMethod ({ cls := "AskedNamesModel", name := "draw", desc := "(I)I" } : Jvm.MethodName)) ∈ lw_tbl := lw_at lw_m12 133 rfl
theorem q2899 : (Jvm.Cond.instanceMethod ({ cls := "AskedNamesModel", name := "draw", desc := "(I)I" } : Jvm.MethodName)) ∈ lw_all := lw_g (lw_at lw_m12 134 rfl) rfl
theorem q2900 : (Jvm.Cond.code ({ cls := "AskedNamesModel", name := "draw", desc := "(I)I" } : Jvm.MethodName) prog_25_method_118_code (2 : Nat) (Option.some Jvm.ClassFile.FieldType.int)) ∈ lw_all := lw_g (lw_at lw_m12 135 rfl) rfl
theorem q2901 : (Jvm.Cond.constant "AskedNamesModel" (615 : Nat) (1103515245 : Int32)) ∈ lw_all := lw_g (lw_at lw_m12 136 rfl) rfl
theorem q2903 : (Jvm.Cond.instanceMethod ({ cls := "AskedNamesModel", name := "after", desc := "(III)I" } : Jvm.MethodName)) ∈ lw_all := lw_g (lw_at lw_m12 138 rfl) rfl
theorem q2904 : (Jvm.Cond.selects "AskedNamesModel" ({ cls := "AskedNamesModel", name := "after", desc := "(III)I" } : Jvm.MethodName) ({ cls := "AskedNamesModel", name := "after", desc := "(III)I" } : Jvm.MethodName)) ∈ lw_all := lw_g (lw_at lw_m12 139 rfl) rfl
theorem q2905 : (Jvm.Cond.code ({ cls := "AskedNamesModel", name := "after", desc := "(III)I" } : Jvm.MethodName) prog_25_method_123_code (4 : Nat) (Option.some Jvm.ClassFile.FieldType.int)) ∈ lw_all := lw_g (lw_at lw_m12 140 rfl) rfl
theorem q2906 : (Jvm.Cond.methodLink "AskedNamesModel" (625 : Nat) ({ cls := "AskedNamesModel", name := "mean", desc := "(Z)I" } : Jvm.MethodName)) ∈ lw_all := lw_g (lw_at lw_m12 141 rfl) rfl
theorem q2907 : (Jvm.Cond.privateMethod ({ cls := "AskedNamesModel", name := "mean", desc := "(Z)I" } : Jvm.MethodName)) ∈ lw_tbl := lw_at lw_m12 142 rfl
theorem q2908 : (Jvm.Cond.instanceMethod ({ cls := "AskedNamesModel", name := "mean", desc := "(Z)I" } : Jvm.MethodName)) ∈ lw_all := lw_g (lw_at lw_m12 143 rfl) rfl
theorem q2909 : (Jvm.Cond.code ({ cls := "AskedNamesModel", name := "mean", desc := "(Z)I" } : Jvm.MethodName) prog_25_method_122_code (5 : Nat) (Option.some Jvm.ClassFile.FieldType.int)) ∈ lw_all := lw_g (lw_at lw_m12 144 rfl) rfl
theorem q2910 : (Jvm.Cond.methodLink "AskedNamesModel" (622 : Nat) ({ cls := "AskedNamesModel", name := "common", desc := "(II)I" } : Jvm.MethodName)) ∈ lw_all := lw_g (lw_at lw_m12 145 rfl) rfl
theorem q2911 : (Jvm.Cond.static ({ cls := "AskedNamesModel", name := "common", desc := "(II)I" } : Jvm.MethodName)) ∈ lw_all := lw_g (lw_at lw_m12 146 rfl) rfl
theorem q2912 : (Jvm.Cond.code ({ cls := "AskedNamesModel", name := "common", desc := "(II)I" } : Jvm.MethodName) prog_25_method_121_code (5 : Nat) (Option.some Jvm.ClassFile.FieldType.int)) ∈ lw_all := lw_g (lw_at lw_m12 147 rfl) rfl
theorem q2914 : (Jvm.Cond.instanceMethod ({ cls := "AskedNamesModel", name := "edges", desc := "(II)I" } : Jvm.MethodName)) ∈ lw_all := lw_g (lw_at lw_m12 149 rfl) rfl
theorem q2915 : (Jvm.Cond.selects "AskedNamesModel" ({ cls := "AskedNamesModel", name := "edges", desc := "(II)I" } : Jvm.MethodName) ({ cls := "AskedNamesModel", name := "edges", desc := "(II)I" } : Jvm.MethodName)) ∈ lw_all := lw_g (lw_at lw_m12 150 rfl) rfl
theorem q2916 : (Jvm.Cond.code ({ cls := "AskedNamesModel", name := "edges", desc := "(II)I" } : Jvm.MethodName) prog_25_method_127_code (6 : Nat) (Option.some Jvm.ClassFile.FieldType.int)) ∈ lw_all := lw_g (lw_at lw_m12 151 rfl) rfl
theorem q2917 : (Jvm.Cond.methodLink "AskedNamesModel" (629 : Nat) ({ cls := "AskedNamesModel", name := "linksAt", desc := "(I)I" } : Jvm.MethodName)) ∈ lw_all := lw_g (lw_at lw_m12 152 rfl) rfl
theorem q2918 : (Jvm.Cond.privateMethod ({ cls := "AskedNamesModel", name := "linksAt", desc := "(I)I" } : Jvm.MethodName)) ∈ lw_tbl := lw_at lw_m12 153 rfl
theorem q2919 : (Jvm.Cond.instanceMethod ({ cls := "AskedNamesModel", name := "linksAt", desc := "(I)I" } : Jvm.MethodName)) ∈ lw_all := lw_g (lw_at lw_m12 154 rfl) rfl
theorem q2920 : (Jvm.Cond.code ({ cls := "AskedNamesModel", name := "linksAt", desc := "(I)I" } : Jvm.MethodName) prog_25_method_124_code (4 : Nat) (Option.some Jvm.ClassFile.FieldType.int)) ∈ lw_all := lw_g (lw_at lw_m12 155 rfl) rfl
theorem q2921 : (Jvm.Cond.methodLink "AskedNamesModel" (632 : Nat) ({ cls := "AskedNamesModel", name := "isServed", desc := "(I)Z" } : Jvm.MethodName)) ∈ lw_all := lw_g (lw_at lw_m12 156 rfl) rfl
theorem q2922 : (Jvm.Cond.privateMethod ({ cls := "AskedNamesModel", name := "isServed", desc := "(I)Z" } : Jvm.MethodName)) ∈ lw_tbl := lw_at lw_m12 157 rfl
theorem q2923 : (Jvm.Cond.instanceMethod ({ cls := "AskedNamesModel", name := "isServed", desc := "(I)Z" } : Jvm.MethodName)) ∈ lw_all := lw_g (lw_at lw_m12 158 rfl) rfl
theorem q2924 : (Jvm.Cond.code ({ cls := "AskedNamesModel", name := "isServed", desc := "(I)Z" } : Jvm.MethodName) prog_25_method_126_code (3 : Nat) (Option.some Jvm.ClassFile.FieldType.boolean)) ∈ lw_all := lw_g (lw_at lw_m12 159 rfl) rfl
theorem q2925 : (Jvm.Cond.methodLink "AskedNamesModel" (635 : Nat) ({ cls := "AskedNamesModel", name := "isHidden", desc := "(I)Z" } : Jvm.MethodName)) ∈ lw_all := lw_g (lw_at lw_m12 160 rfl) rfl
theorem q2926 : (Jvm.Cond.privateMethod ({ cls := "AskedNamesModel", name := "isHidden", desc := "(I)Z" } : Jvm.MethodName)) ∈ lw_tbl := lw_at lw_m12 161 rfl
theorem q2927 : (Jvm.Cond.instanceMethod ({ cls := "AskedNamesModel", name := "isHidden", desc := "(I)Z" } : Jvm.MethodName)) ∈ lw_all := lw_g (lw_at lw_m12 162 rfl) rfl
theorem q2928 : (Jvm.Cond.code ({ cls := "AskedNamesModel", name := "isHidden", desc := "(I)Z" } : Jvm.MethodName) prog_25_method_125_code (3 : Nat) (Option.some Jvm.ClassFile.FieldType.boolean)) ∈ lw_all := lw_g (lw_at lw_m12 163 rfl) rfl
theorem q2930 : (Jvm.Cond.instanceMethod ({ cls := "AskedNamesModel", name := "count", desc := "(I)I" } : Jvm.MethodName)) ∈ lw_all := lw_g (lw_at lw_m12 165 rfl) rfl
theorem q2931 : (Jvm.Cond.selects "AskedNamesModel" ({ cls := "AskedNamesModel", name := "count", desc := "(I)I" } : Jvm.MethodName) ({ cls := "AskedNamesModel", name := "count", desc := "(I)I" } : Jvm.MethodName)) ∈ lw_all := lw_g (lw_at lw_m12 166 rfl) rfl
theorem q2932 : (Jvm.Cond.code ({ cls := "AskedNamesModel", name := "count", desc := "(I)I" } : Jvm.MethodName) prog_25_method_128_code (2 : Nat) (Option.some Jvm.ClassFile.FieldType.int)) ∈ lw_all := lw_g (lw_at lw_m12 167 rfl) rfl
theorem q2934 : (Jvm.Cond.instanceMethod ({ cls := "AskedNamesModel", name := "image", desc := "(I)Z" } : Jvm.MethodName)) ∈ lw_all := lw_g (lw_at lw_m12 169 rfl) rfl
theorem q2935 : (Jvm.Cond.selects "AskedNamesModel" ({ cls := "AskedNamesModel", name := "image", desc := "(I)Z" } : Jvm.MethodName) ({ cls := "AskedNamesModel", name := "image", desc := "(I)Z" } : Jvm.MethodName)) ∈ lw_all := lw_g (lw_at lw_m12 170 rfl) rfl
theorem q2936 : (Jvm.Cond.code ({ cls := "AskedNamesModel", name := "image", desc := "(I)Z" } : Jvm.MethodName) prog_25_method_129_code (2 : Nat) (Option.some Jvm.ClassFile.FieldType.boolean)) ∈ lw_all := lw_g (lw_at lw_m12 171 rfl) rfl
theorem q2937 : (Jvm.Cond.methodLink "AskedNamesModel" (638 : Nat) ({ cls := "AskedNamesModel", name := "copyAll", desc := "(II)V" } : Jvm.MethodName)) ∈ lw_all := lw_g (lw_at lw_m12 172 rfl) rfl
theorem q2938 : (Jvm.Cond.privateMethod ({ cls := "AskedNamesModel", name := "copyAll", desc := "(II)V" } : Jvm.MethodName)) ∈ lw_tbl := lw_at lw_m12 173 rfl
theorem q2939 : (Jvm.Cond.instanceMethod ({ cls := "AskedNamesModel", name := "copyAll", desc := "(II)V" } : Jvm.MethodName)) ∈ lw_all := lw_g (lw_at lw_m12 174 rfl) rfl
theorem q2940 : (Jvm.Cond.code ({ cls := "AskedNamesModel", name := "copyAll", desc := "(II)V" } : Jvm.MethodName) prog_25_method_9_code (4 : Nat) (Option.none : Option Jvm.ClassFile.FieldType)) ∈ lw_all := lw_g (lw_at lw_m12 175 rfl) rfl
theorem q2941 : (Jvm.Cond.methodLink "AskedNamesModel" (177 : Nat) ({ cls := "AskedNamesModel", name := "copyRow", desc := "([IIII)V" } : Jvm.MethodName)) ∈ lw_all := lw_g (lw_at lw_m12 176 rfl) rfl
theorem q2942 : (Jvm.Cond.static ({ cls := "AskedNamesModel", name := "copyRow", desc := "([IIII)V" } : Jvm.MethodName)) ∈ lw_all := lw_g (lw_at lw_m12 177 rfl) rfl
theorem q2943 : (Jvm.Cond.code ({ cls := "AskedNamesModel", name := "copyRow", desc := "([IIII)V" } : Jvm.MethodName) prog_25_method_8_code (5 : Nat) (Option.none : Option Jvm.ClassFile.FieldType)) ∈ lw_all := lw_g (lw_at lw_m12 178 rfl) rfl
theorem q2945 : (Jvm.Cond.instanceMethod ({ cls := "AskedNamesModel", name := "again", desc := "(I)Z" } : Jvm.MethodName)) ∈ lw_all := lw_g (lw_at lw_m12 180 rfl) rfl
theorem q2946 : (Jvm.Cond.selects "AskedNamesModel" ({ cls := "AskedNamesModel", name := "again", desc := "(I)Z" } : Jvm.MethodName) ({ cls := "AskedNamesModel", name := "again", desc := "(I)Z" } : Jvm.MethodName)) ∈ lw_all := lw_g (lw_at lw_m12 181 rfl) rfl
theorem q2947 : (Jvm.Cond.code ({ cls := "AskedNamesModel", name := "again", desc := "(I)Z" } : Jvm.MethodName) prog_25_method_130_code (2 : Nat) (Option.some Jvm.ClassFile.FieldType.boolean)) ∈ lw_all := lw_g (lw_at lw_m12 182 rfl) rfl
theorem q2978 : (Jvm.Cond.castable "AskedNamesModel" "java/lang/Object") ∈ lw_tbl := lw_at lw_m12 213 rfl
theorem in_X2 : ∀ w ∈ wsX20, w ∈ lw_all := lw_in wsX20 [2257, 2259, 2261, 2263, 2265, 2267, 2269, 2271, 2273, 2275, 2277, 2279, 2281, 2283, 2285, 2287, 2289, 2291, 2293, 2295, 2297, 2299, 2301, 2303, 2305, 2307, 2309, 2311, 2313, 2315, 2317, 2319, 2321, 2323, 2325, 2327, 2329, 2331, 2333, 2335, 2337, 2339, 2341, 2343, 2345, 2347, 2349, 2351, 2353, 2355, 2357, 2359, 2361, 2363, 2365, 2367, 2369, 2371, 2373, 2375, 2377, 2379, 2381, 2383, 2385, 2387, 2389, 2391, 2393, 2395, 2397, 2399, 2401, 2403, 2405, 2407, 2409, 2411, 2413, 2415, 2417, 2419, 2421, 2423, 2425, 2427, 2429] (by decide +kernel) (by decide +kernel)
